section
/-! ints that may be negative: zd_I x = Int32.ofInt x -/
def zd_I (x : Int) : Int32 := Int32.ofInt x
theorem zd_toInt {x : Int} (h1 : -1000000 ≤ x) (h2 : x ≤ 1000000) : (zd_I x).toInt = x := Int32.toInt_ofInt_of_le (by omega) (by omega)
theorem zd_add (a b : Int) : zd_I a + zd_I b = zd_I (a + b) := (Int32.ofInt_add a b).symm
theorem zd_sub (a b : Int) : zd_I a - zd_I b = zd_I (a - b) := (Int32.ofInt_sub a b).symm
theorem zd_neg (a : Int) : -zd_I a = zd_I (-a) := (Int32.ofInt_neg a).symm
theorem zd_mul (a b : Int) : zd_I a * zd_I b = zd_I (a * b) := (Int32.ofInt_mul a b).symm
theorem zd_nat (n : Nat) : nI n = zd_I (n : Int) := Int32.ofInt_eq_ofNat.symm
theorem zd_le {x y : Int32} {A B : Prop} (a b : Int) (hx : x = zd_I a) (hy : y = zd_I b) (ha : -1000000 ≤ a ∧ a ≤ 1000000) (hb : -1000000 ≤ b ∧ b ≤ 1000000) (f : a ≤ b → A) (g : b < a → B) : (x ≤ y → A) ∧ (¬ x ≤ y → B) := by
  subst hx hy
  rw [Int32.le_iff_toInt_le, zd_toInt ha.1 ha.2, zd_toInt hb.1 hb.2]
  exact ⟨f, fun z => g (by omega)⟩
theorem zd_lt {x y : Int32} {A B : Prop} (a b : Int) (hx : x = zd_I a) (hy : y = zd_I b) (ha : -1000000 ≤ a ∧ a ≤ 1000000) (hb : -1000000 ≤ b ∧ b ≤ 1000000) (f : a < b → A) (g : b ≤ a → B) : (x < y → A) ∧ (¬ x < y → B) := by
  subst hx hy
  rw [Int32.lt_iff_toInt_lt, zd_toInt ha.1 ha.2, zd_toInt hb.1 hb.2]
  exact ⟨f, fun z => g (by omega)⟩
theorem zd_e {a b : Int} (h : a = b) : zd_I a = zd_I b := by rw [h]
/-! places of the array -/
theorem zd_ix3 (z i j : Nat) : ((16 * nI z) + (4 * nI i)) + nI j = nI (16 * z + (4 * i + j)) := by
  show ((nI 16 * nI z) + (nI 4 * nI i)) + nI j = _
  rw [pk_mul, pk_mul, nI_add, nI_add, Nat.add_assoc]
theorem zd_ix2 (z k : Nat) : (16 * nI z) + nI k = nI (16 * z + k) := by
  show (nI 16 * nI z) + nI k = _
  rw [pk_mul, nI_add]
theorem zd_ix4 (z i : Nat) : (16 * nI z) + (4 * nI i) = nI (16 * z + (4 * i)) := by
  show (nI 16 * nI z) + (nI 4 * nI i) = _
  rw [pk_mul, pk_mul, nI_add]
theorem zd_ix5 (z i : Nat) : (16 * nI z) + (5 * nI i) = nI (16 * z + (5 * i)) := by
  show (nI 16 * nI z) + (nI 5 * nI i) = _
  rw [pk_mul, pk_mul, nI_add]
/-! a zone's sixteen bounds M, and what a store does to them -/
def zd_Z (z : Nat) (M : Nat → Int) (a : Nat → Int32) : Prop := ∀ k, k < 16 → a (16 * z + k) = zd_I (M k)
/-- all that is not of zone z stays -/
def zd_out (z : Nat) (a b : Nat → Int32) : Prop := ∀ q, (q < 16 * z ∨ 16 * z + 16 ≤ q) → b q = a q
theorem zd_out_r (z : Nat) (a : Nat → Int32) : zd_out z a a := fun _ _ => rfl
theorem zd_out_u {z p : Nat} {a b : Nat → Int32} {x : Int32} (h : zd_out z a b) (hp : p < 16) : zd_out z a (upd b (16 * z + p) x) := by
  intro q hq
  rw [pk_un (by omega)]
  exact h q hq
theorem zd_out_t {z : Nat} {a b c : Nat → Int32} (h : zd_out z a b) (h2 : zd_out z b c) : zd_out z a c := by
  intro q hq
  rw [h2 q hq, h q hq]
theorem zd_out_Z {z y : Nat} {M : Nat → Int} {a b : Nat → Int32} (h : zd_out z a b) (hy : y ≠ z) (hZ : zd_Z y M a) : zd_Z y M b := by
  intro k hk
  rw [h _ (by omega)]
  exact hZ k hk
theorem zd_Z_e {z : Nat} {M M' : Nat → Int} {a : Nat → Int32} (h : zd_Z z M a) (e : ∀ k, k < 16 → M' k = M k) : zd_Z z M' a := by
  intro k hk
  rw [e k hk]
  exact h k hk
theorem zd_Z_u {z p : Nat} {M M' : Nat → Int} {a : Nat → Int32} {v : Int} (h : zd_Z z M a) (hp : M' p = v) (ho : ∀ k, k < 16 → k ≠ p → M' k = M k) : zd_Z z M' (upd a (16 * z + p) (zd_I v)) := by
  intro k hk
  by_cases e : k = p
  · rw [e, pk_us, hp]
  · rw [pk_un (by omega), ho k hk e]
    exact h k hk
theorem zd_up {s : Nat → Int32} {x : Int32} {k : Nat} {u v : Int32} (hx : x = nI k) (hk : k < 2 ^ 31) (e : u = v) : upd s x.toNatClampNeg u = upd s k v := by
  rw [pk_cl k hx hk, e]
theorem zd_rd {s : Nat → Int32} {x : Int32} {k : Nat} (hx : x = nI k) (hk : k < 2 ^ 31) : s x.toNatClampNeg = s k := by
  rw [pk_cl k hx hk]
/-! the small methods -/
theorem zd_bad {post : Int32 → Prop} {u : St2} {z : Nat} (hz : z < 4) (hp : post 0) : wpX_bad post u (nI z) := by
  obtain ⟨a1, a2⟩ := u
  exact br_f (nI_pos (by omega)) (pk_lt z 4 (fun _ => hp) (fun h => absurd h (by omega)))
theorem zd_answer {post : Int32 → Prop} {a1 a2 : Nat → Int32} {z : Nat} (hz : z < 4) (h : a2 z = 0) (hp : post 1) : wpX_answer post (a1, a2) (nI z) := by
  unfold wpX_answer
  dsimp only
  rw [pk_cl z]
  exact ⟨pk_in z 6 (by omega), br_t h hp⟩
theorem zd_greater {post : Int32 → Prop} {u : St2} {x y : Int32} (a b : Int) (hx : x = zd_I a) (hy : y = zd_I b) (ha : -1000000 ≤ a ∧ a ≤ 1000000) (hb : -1000000 ≤ b ∧ b ≤ 1000000) (hp : post (zd_I (max a b))) : wpX_greater post u x y := by
  obtain ⟨a1, a2⟩ := u
  refine zd_le a b hx hy ha hb (fun h => ?_) (fun h => ?_)
  · rw [show max a b = b by omega] at hp
    rw [hy]
    exact hp
  · rw [show max a b = a by omega] at hp
    rw [hx]
    exact hp
theorem zd_lesser {post : Int32 → Prop} {u : St2} {x y : Int32} (a b : Int) (hx : x = zd_I a) (hy : y = zd_I b) (ha : -1000000 ≤ a ∧ a ≤ 1000000) (hb : -1000000 ≤ b ∧ b ≤ 1000000) (hp : post (zd_I (min a b))) : wpX_lesser post u x y := by
  obtain ⟨a1, a2⟩ := u
  refine zd_le b a hy hx hb ha (fun h => ?_) (fun h => ?_)
  · rw [show min a b = b by omega] at hp
    rw [hy]
    exact hp
  · rw [show min a b = a by omega] at hp
    rw [hx]
    exact hp
end
section
/-! a fresh zone -/
def zd_F (k : Nat) : Int := if k / 4 = k % 4 ∨ k / 4 = 0 then 0 else 9
theorem zd_F_at {i j : Nat} (hj : j < 4) : zd_F (4 * i + j) = if i = j ∨ i = 0 then 0 else 9 := by
  unfold zd_F
  rw [show (4 * i + j) / 4 = i by omega, show (4 * i + j) % 4 = j by omega]
theorem zd_box {post : Int32 → Prop} {u : St2} {i j : Nat} (hi : i < 4) (hj : j < 4) (hp : post (zd_I (zd_F (4 * i + j)))) : wpX_boxBound post u (nI i) (nI j) := by
  obtain ⟨a1, a2⟩ := u
  rw [zd_F_at hj] at hp
  refine pk_eq i j (fun e => ?_) (fun e => pk_eq i 0 (fun e0 => ?_) (fun e0 => ?_))
  · rw [if_pos (Or.inl e)] at hp
    exact hp
  · rw [if_pos (Or.inr e0)] at hp
    exact hp
  · rw [if_neg (by omega)] at hp
    exact hp
theorem zd_fr16 {post : St2 → Prop} {J : Int32 → (Nat → Int32) → (Nat → Int32) → Prop} {z i : Nat} {a0 a1 a2 : Nat → Int32} (hz : z < 4) (hi : i < 4)
    (h0 : ∀ k, k < 4 * i → a1 (16 * z + k) = zd_I (zd_F k)) (ho : zd_out z a0 a1)
    (H : ∀ a, (∀ k, k < 4 * (i + 1) → a (16 * z + k) = zd_I (zd_F k)) → zd_out z a0 a → J (nI (i + 1)) a a2) :
    ∃ n, wX_setFresh_16 post J (nI z) (nI i) n 0 a1 a2 := by
  refine pk_loop (fun n j s => wX_setFresh_16 post J (nI z) (nI i) n (nI j) s a2) (fun j s => (∀ k, k < 4 * i + j → s (16 * z + k) = zd_I (zd_F k)) ∧ zd_out z a0 s) 4 0 a1 (by omega) ⟨fun k hk => h0 k (by omega), ho⟩ ?_ ?_
  · intro n s h
    exact pk_le 4 4 (fun _ => nm_r (nI_1 i) (H s (fun k hk => h.1 k (by omega)) h.2)) (fun z => absurd z (by omega))
  · intro n j s hj h hw
    refine pk_le 4 j (fun z => absurd z (by omega)) (fun _ => zd_box hi hj ⟨pk_in (16 * z + (4 * i + j)) 96 (by omega) (zd_ix3 z i j), nm_r (zd_up (zd_ix3 z i j) (by omega) rfl) (nm_r (nI_1 j) (hw _ ⟨fun k hk => ?_, zd_out_u h.2 (by omega)⟩))⟩)
    by_cases e : k = 4 * i + j
    · rw [e, pk_us]
    · rw [pk_un (by omega)]
      exact h.1 k (by omega)
theorem zd_fr9 {post : St2 → Prop} {z : Nat} {a1 a2 : Nat → Int32} (hz : z < 4) (H : ∀ a, zd_Z z zd_F a → zd_out z a1 a → post (a, a2)) : ∃ n, wX_setFresh_9 post (nI z) n 0 a1 a2 := by
  refine pk_loop (fun n i s => wX_setFresh_9 post (nI z) n (nI i) s a2) (fun i s => (∀ k, k < 4 * i → s (16 * z + k) = zd_I (zd_F k)) ∧ zd_out z a1 s) 4 0 a1 (by omega) ⟨fun k hk => absurd hk (by omega), zd_out_r z a1⟩ ?_ ?_
  · intro n s h
    exact pk_le 4 4 (fun _ => H s (fun k hk => h.1 k (by omega)) h.2) (fun z => absurd z (by omega))
  · intro n i s hi h hw
    exact pk_le 4 i (fun z => absurd z (by omega)) (fun _ => zd_fr16 hz hi h.1 h.2 (fun a ha ho => hw a ⟨ha, ho⟩))
theorem zd_setFresh {post : St2 → Prop} {z : Nat} {a1 a2 : Nat → Int32} (hz : z < 4) (H : ∀ a, zd_Z z zd_F a → zd_out z a1 a → post (a, upd a2 z 0)) : wpX_setFresh post (a1, a2) (nI z) :=
  ⟨pk_in z 6 (by omega), nm_r (zd_up rfl (by omega) rfl) (zd_fr9 hz H)⟩
theorem zd_init {post : St2 → Prop} {mc ms : Nat} (h1 : 2 ≤ mc) (h2 : 102 ≤ ms) (H : ∀ a1 a2, zd_Z 1 zd_F a1 → a2 1 = 0 → post (a1, a2)) : wpX_init post mc ms () := by
  refine ⟨by omega, by omega, h1, h2, ?_⟩
  refine pk_loop (fun n i (s : (Nat → Int32) × (Nat → Int32)) => wX_init_22 post mc ms 2 102 n (nI i) s.1 s.2) (fun i s => (1 < i → zd_Z 1 zd_F s.1) ∧ s.2 1 = 0) 4 0 (fun _ => 0, fun _ => 0) (by omega) ⟨fun h => absurd h (by omega), rfl⟩ ?_ ?_
  · intro n s h
    exact pk_le 4 4 (fun _ => H s.1 s.2 (h.1 (by omega)) h.2) (fun z => absurd z (by omega))
  · intro n i s hi h hw
    refine pk_le 4 i (fun z => absurd z (by omega)) (fun _ => zd_setFresh hi (fun a ha ho => nm_r (nI_1 i) (hw (a, upd s.2 i 0) ⟨fun h1 => ?_, ?_⟩)))
    · by_cases e : i = 1
      · rw [e] at ha
        exact ha
      · exact zd_out_Z ho (by omega) (h.1 (by omega))
    · show upd s.2 i 0 1 = 0
      by_cases e : (1 : Nat) = i
      · rw [← e, pk_us]
      · rw [pk_un e]
        exact h.2
end
section
/-! reset and forget: row i and column i are made anew out of row 0 and column 0; below j it is done -/
def zd_R (i : Nat) (c d : Int) (M : Nat → Int) (j k : Nat) : Int := if k / 4 = i ∧ k % 4 ≠ i ∧ k % 4 < j then c + M (k % 4) else if k % 4 = i ∧ k / 4 ≠ i ∧ k / 4 < j then M (4 * (k / 4)) - d else M k
theorem zd_R_0 (i : Nat) (c d : Int) (M : Nat → Int) (k : Nat) : zd_R i c d M 0 k = M k := by
  unfold zd_R
  rw [if_neg (by omega), if_neg (by omega)]
theorem zd_R_row {i j : Nat} (c d : Int) (M : Nat → Int) (hi1 : 1 ≤ i) (hj : j < 4) (hji : j ≠ i) : zd_R i c d M j j = M j := by
  unfold zd_R
  rw [if_neg (by omega), if_neg (by omega)]
theorem zd_R_col {i j : Nat} (c d : Int) (M : Nat → Int) (hi1 : 1 ≤ i) (hji : j ≠ i) : zd_R i c d M j (4 * j) = M (4 * j) := by
  unfold zd_R
  rw [if_neg (by omega), if_neg (by omega)]
theorem zd_R_skip {i : Nat} (c d : Int) (M : Nat → Int) (k : Nat) : zd_R i c d M (i + 1) k = zd_R i c d M i k := by
  unfold zd_R
  omega
theorem zd_R_1 {z i j : Nat} {c d : Int} {M : Nat → Int} {s : Nat → Int32} (h : zd_Z z (zd_R i c d M j) s) : zd_Z z (fun k => if k = 4 * i + j then c + M j else zd_R i c d M j k) (upd s (16 * z + (4 * i + j)) (zd_I (c + M j))) :=
  zd_Z_u h (if_pos rfl) (fun k _ hk => if_neg hk)
theorem zd_R_2 {z i j : Nat} {c d : Int} {M : Nat → Int} {s : Nat → Int32} (hi1 : 1 ≤ i) (hi : i < 4) (hj : j < 4) (hji : j ≠ i) (h : zd_Z z (zd_R i c d M j) s) : zd_Z z (zd_R i c d M (j + 1)) (upd (upd s (16 * z + (4 * i + j)) (zd_I (c + M j))) (16 * z + (4 * j + i)) (zd_I (M (4 * j) - d))) := by
  refine zd_Z_u (zd_R_1 h) ?_ (fun k hk hne => ?_)
  · unfold zd_R
    rw [show (4 * j + i) / 4 = j by omega, show (4 * j + i) % 4 = i by omega, if_neg (by omega), if_pos (by omega)]
  · show zd_R i c d M (j + 1) k = if k = 4 * i + j then c + M j else zd_R i c d M j k
    by_cases e : k = 4 * i + j
    · rw [if_pos e, e]
      unfold zd_R
      rw [show (4 * i + j) / 4 = i by omega, show (4 * i + j) % 4 = j by omega, if_pos (by omega)]
    · rw [if_neg e]
      unfold zd_R
      omega
theorem zd_R_rd {z i j : Nat} {c d : Int} {M : Nat → Int} {s : Nat → Int32} (hi1 : 1 ≤ i) (hi : i < 4) (hj : j < 4) (hji : j ≠ i) (h : zd_Z z (zd_R i c d M j) s) : upd s (16 * z + (4 * i + j)) (zd_I (c + M j)) (16 * z + 4 * j) = zd_I (M (4 * j)) := by
  rw [pk_un (by omega), h (4 * j) (by omega), zd_R_col c d M hi1 hji]
theorem zd_reset {post : Int32 → St2 → Prop} {z i c : Nat} {M : Nat → Int} {a1 a2 : Nat → Int32} (hz : z < 4) (hi1 : 1 ≤ i) (hi : i < 4) (hc : c ≤ 9) (hZ : zd_Z z M a1) (h2 : a2 z = 0)
    (H : ∀ a, zd_Z z (zd_R i c c M 4) a → post 1 (a, a2)) : wpX_reset post (a1, a2) (nI z) (nI i) (nI c) := by
  unfold wpX_reset
  dsimp only
  refine zd_bad hz (br_t rfl (pk_lt i 1 (fun z => absurd z (by omega)) (fun _ => pk_lt 3 i (fun z => absurd z (by omega)) (fun _ => pk_lt c 0 (fun z => absurd z (by omega)) (fun _ => pk_le c 9 (fun _ => ⟨pk_in z 6 (by omega), br_t ((zd_rd rfl (by omega)).trans h2) ?_⟩) (fun z => absurd z (by omega)))))))
  refine pk_loop (fun n j s => wX_reset_44 post (nI z) (nI i) (nI c) n (nI j) s a2) (fun j s => zd_Z z (zd_R i c c M j) s) 4 0 a1 (by omega) (zd_Z_e hZ (fun k _ => zd_R_0 i c c M k)) ?_ ?_
  · intro n s h
    exact pk_le 4 4 (fun _ => zd_answer hz h2 (H s h)) (fun z => absurd z (by omega))
  · intro n j s hj h hw
    refine pk_le 4 j (fun z => absurd z (by omega)) (fun _ => pk_eq j i (fun e => nm_r (nI_1 j) (hw s ?_)) (fun e => ?_))
    · rw [e]
      rw [e] at h
      exact zd_Z_e h (fun k _ => zd_R_skip c c M k)
    · have E1 : nI c + s ((16 * nI z) + nI j).toNatClampNeg = zd_I (c + M j) := by
        rw [pk_cl _ (zd_ix2 z j) (by omega), h j (by omega), zd_R_row c c M hi1 hj e, zd_nat, zd_add]
      have E2 : upd s (16 * z + (4 * i + j)) (zd_I (c + M j)) ((16 * nI z) + (4 * nI j)).toNatClampNeg - nI c = zd_I (M (4 * j) - c) := by
        rw [pk_cl _ (zd_ix4 z j) (by omega), zd_R_rd hi1 hi hj e h, zd_nat, zd_sub]
      exact ⟨pk_in (16 * z + j) 96 (by omega) (zd_ix2 z j), pk_in (16 * z + (4 * i + j)) 96 (by omega) (zd_ix3 z i j), nm_r (zd_up (zd_ix3 z i j) (by omega) E1) ⟨pk_in (16 * z + 4 * j) 96 (by omega) (zd_ix4 z j), pk_in (16 * z + (4 * j + i)) 96 (by omega) (zd_ix3 z j i), nm_r (zd_up (zd_ix3 z j i) (by omega) E2) (nm_r (nI_1 j) (hw _ (zd_R_2 hi1 hi hj e h)))⟩⟩
theorem zd_forget {post : Int32 → St2 → Prop} {z i : Nat} {M : Nat → Int} {a1 a2 : Nat → Int32} (hz : z < 4) (hi1 : 1 ≤ i) (hi : i < 4) (hZ : zd_Z z M a1) (h2 : a2 z = 0)
    (H : ∀ a, zd_Z z (zd_R i 9 0 M 4) a → post 1 (a, a2)) : wpX_forget post (a1, a2) (nI z) (nI i) := by
  unfold wpX_forget
  dsimp only
  refine zd_bad hz (br_t rfl (pk_lt i 1 (fun z => absurd z (by omega)) (fun _ => pk_le i 3 (fun _ => ⟨pk_in z 6 (by omega), br_t ((zd_rd rfl (by omega)).trans h2) ?_⟩) (fun z => absurd z (by omega)))))
  refine pk_loop (fun n j s => wX_forget_33 post (nI z) (nI i) n (nI j) s a2) (fun j s => zd_Z z (zd_R i 9 0 M j) s) 4 0 a1 (by omega) (zd_Z_e hZ (fun k _ => zd_R_0 i 9 0 M k)) ?_ ?_
  · intro n s h
    exact pk_le 4 4 (fun _ => zd_answer hz h2 (H s h)) (fun z => absurd z (by omega))
  · intro n j s hj h hw
    refine pk_le 4 j (fun z => absurd z (by omega)) (fun _ => pk_eq j i (fun e => nm_r (nI_1 j) (hw s ?_)) (fun e => ?_))
    · rw [e]
      rw [e] at h
      exact zd_Z_e h (fun k _ => zd_R_skip 9 0 M k)
    · have E1 : 9 + s ((16 * nI z) + nI j).toNatClampNeg = zd_I (9 + M j) := by
        rw [pk_cl _ (zd_ix2 z j) (by omega), h j (by omega), zd_R_row 9 0 M hi1 hj e]
        exact zd_add 9 (M j)
      have E2 : upd s (16 * z + (4 * i + j)) (zd_I (9 + M j)) ((16 * nI z) + (4 * nI j)).toNatClampNeg = zd_I (M (4 * j) - 0) := by
        rw [pk_cl _ (zd_ix4 z j) (by omega), zd_R_rd hi1 hi hj e h, Int.sub_zero]
      exact ⟨pk_in (16 * z + j) 96 (by omega) (zd_ix2 z j), pk_in (16 * z + (4 * i + j)) 96 (by omega) (zd_ix3 z i j), nm_r (zd_up (zd_ix3 z i j) (by omega) E1) ⟨pk_in (16 * z + 4 * j) 96 (by omega) (zd_ix4 z j), pk_in (16 * z + (4 * j + i)) 96 (by omega) (zd_ix3 z j i), nm_r (zd_up (zd_ix3 z j i) (by omega) E2) (nm_r (nI_1 j) (hw _ (zd_R_2 hi1 hi hj e h)))⟩⟩
end
section
/-! a zone about the points v + t, t from 0: the bounds of the differences are v i - v j, and the number i goes up to v i + e i -/
def zd_T (v e : Nat → Int) (k : Nat) : Int := v (k / 4) - v (k % 4) + (if k % 4 = 0 then e (k / 4) else 0)
theorem zd_T_at (v e : Nat → Int) (i : Nat) {j : Nat} (hj : j < 4) : zd_T v e (4 * i + j) = v i - v j + (if j = 0 then e i else 0) := by
  unfold zd_T
  rw [show (4 * i + j) / 4 = i by omega, show (4 * i + j) % 4 = j by omega]
theorem zd_T_b {v e : Nat → Int} (hv : ∀ i, 0 ≤ v i ∧ v i ≤ 9) (he : ∀ i, 0 ≤ e i ∧ e i ≤ 9) (k : Nat) : -100 ≤ zd_T v e k ∧ zd_T v e k ≤ 100 := by
  have h1 := hv (k / 4)
  have h2 := hv (k % 4)
  have h3 := he (k / 4)
  unfold zd_T
  by_cases h : k % 4 = 0
  · rw [if_pos h]
    omega
  · rw [if_neg h]
    omega
/-- one turn over the number k -/
def zd_st (e : Nat → Int) (k i : Nat) : Int := if k = 0 then e i else min (e i) (e k)
/-- the same, as far as the pair p -/
def zd_pt (e : Nat → Int) (k p i : Nat) : Int := if 4 * i < p then zd_st e k i else e i
def zd_E (e : Nat → Int) : Nat → Nat → Int
  | 0 => e
  | k + 1 => zd_st (zd_E e k) k
theorem zd_st_b {e : Nat → Int} (he : ∀ i, 0 ≤ e i ∧ e i ≤ 9) (k i : Nat) : 0 ≤ zd_st e k i ∧ zd_st e k i ≤ 9 := by
  have h1 := he i
  have h2 := he k
  unfold zd_st
  by_cases h : k = 0
  · rw [if_pos h]
    exact h1
  · rw [if_neg h]
    omega
theorem zd_st_0 {e : Nat → Int} (he : ∀ i, 0 ≤ e i ∧ e i ≤ 9) (e0 : e 0 = 0) (k : Nat) : zd_st e k 0 = 0 := by
  have h2 := he k
  unfold zd_st
  by_cases h : k = 0
  · rw [if_pos h, e0]
  · rw [if_neg h, e0]
    omega
theorem zd_pt_b {e : Nat → Int} (he : ∀ i, 0 ≤ e i ∧ e i ≤ 9) (k p i : Nat) : 0 ≤ zd_pt e k p i ∧ zd_pt e k p i ≤ 9 := by
  unfold zd_pt
  by_cases h : 4 * i < p
  · rw [if_pos h]
    exact zd_st_b he k i
  · rw [if_neg h]
    exact he i
theorem zd_pt_k (e : Nat → Int) (k p : Nat) : zd_pt e k p k = e k := by
  unfold zd_pt zd_st
  by_cases h : 4 * k < p
  · rw [if_pos h]
    by_cases h0 : k = 0
    · rw [if_pos h0]
    · rw [if_neg h0]
      omega
  · rw [if_neg h]
theorem zd_pt_z (e : Nat → Int) (p i : Nat) : zd_pt e 0 p i = e i := by
  unfold zd_pt zd_st
  rw [if_pos rfl]
  by_cases h : 4 * i < p
  · rw [if_pos h]
  · rw [if_neg h]
theorem zd_pt_0 (e : Nat → Int) (k i : Nat) : zd_pt e k 0 i = e i := by
  unfold zd_pt
  rw [if_neg (by omega)]
theorem zd_pt_16 (e : Nat → Int) (k : Nat) {i : Nat} (hi : i < 4) : zd_pt e k 16 i = zd_st e k i := by
  unfold zd_pt
  rw [if_pos (by omega)]
/-- the places that a turn leaves -/
theorem zd_T_o (v e : Nat → Int) (k p q : Nat) (hq : q ≠ p) : zd_T v (zd_pt e k (p + 1)) q = zd_T v (zd_pt e k p) q := by
  unfold zd_T
  by_cases h : q % 4 = 0
  · rw [if_pos h, if_pos h]
    unfold zd_pt
    by_cases h2 : 4 * (q / 4) < p
    · rw [if_pos h2, if_pos (by omega)]
    · rw [if_neg h2, if_neg (by omega)]
  · rw [if_neg h, if_neg h]
/-- the place of the pair: the lesser of what was there and the way over k -/
theorem zd_T_n {v e : Nat → Int} {k i j : Nat} (hv0 : v 0 = 0) (he : ∀ i, 0 ≤ e i ∧ e i ≤ 9) (e0 : e 0 = 0) (hk : k < 4) (hj : j < 4) :
    zd_T v (zd_pt e k (4 * i + j + 1)) (4 * i + j) = min (zd_T v (zd_pt e k (4 * i + j)) (4 * i + j)) (zd_T v (zd_pt e k (4 * i + j)) (4 * i + k) + zd_T v (zd_pt e k (4 * i + j)) (4 * k + j)) := by
  rw [zd_T_at v _ i hj, zd_T_at v _ i hj, zd_T_at v _ i hk, zd_T_at v _ k hj, zd_pt_k]
  have hi := he i
  have hk' := he k
  by_cases k0 : k = 0
  · subst k0
    rw [zd_pt_z, zd_pt_z, hv0, e0, if_pos rfl]
    by_cases j0 : j = 0
    · rw [if_pos j0, if_pos j0]
      omega
    · rw [if_neg j0, if_neg j0]
      omega
  · rw [if_neg k0]
    by_cases j0 : j = 0
    · rw [if_pos j0, if_pos j0, if_pos j0, j0, hv0]
      unfold zd_pt zd_st
      rw [if_pos (by omega), if_neg k0, if_neg (by omega)]
      omega
    · rw [if_neg j0, if_neg j0, if_neg j0]
      omega
theorem zd_t9 {post : St2 → Prop} {J : Int32 → (Nat → Int32) → (Nat → Int32) → Prop} {z k : Nat} {v e : Nat → Int} {a0 a1 a2 : Nat → Int32} (hz : z < 6) (hk : k < 4)
    (hv : ∀ i, 0 ≤ v i ∧ v i ≤ 9) (hv0 : v 0 = 0) (he : ∀ i, 0 ≤ e i ∧ e i ≤ 9) (e0 : e 0 = 0) (h1 : zd_Z z (zd_T v e) a1) (ho : zd_out z a0 a1)
    (H : ∀ a, zd_Z z (zd_T v (zd_st e k)) a → zd_out z a0 a → J (nI (k + 1)) a a2) : ∃ n, wX_tighten_9 post J (nI z) (nI k) n 0 a1 a2 := by
  refine pk_loop (fun n p s => wX_tighten_9 post J (nI z) (nI k) n (nI p) s a2) (fun p s => zd_Z z (zd_T v (zd_pt e k p)) s ∧ zd_out z a0 s) 16 0 a1 (by omega) ⟨zd_Z_e h1 (fun q _ => ?_), ho⟩ ?_ ?_
  · unfold zd_T
    rw [zd_pt_0]
  · intro n s h
    refine pk_le 16 16 (fun _ => nm_r (nI_1 k) (H s (zd_Z_e h.1 (fun q hq => ?_)) h.2)) (fun z => absurd z (by omega))
    unfold zd_T
    rw [zd_pt_16 e k (by omega)]
  · intro n p s hp h hw
    obtain ⟨i, j, hi, hj, rfl⟩ : ∃ i j, i < 4 ∧ j < 4 ∧ p = 4 * i + j := ⟨p / 4, p % 4, by omega, by omega, by omega⟩
    have hd : nI (4 * i + j) / 4 = nI i := by
      have t := pk_div (a := 4 * i + j) (d := 4) (by omega) (by omega) (by omega)
      rw [show (4 * i + j) / 4 = i by omega] at t
      exact t
    have hm : nI (4 * i + j) - nI (4 * i + j) / 4 * 4 = nI j := by
      have t := pk_rem (a := 4 * i + j) (d := 4) (by omega) (by omega) (by omega)
      rw [show (4 * i + j) % 4 = j by omega] at t
      exact t
    have x1 : ((16 * nI z) + (4 * (nI (4 * i + j) / 4))) + nI k = nI (16 * z + (4 * i + k)) := by rw [hd, zd_ix3]
    have x2 : ((16 * nI z) + (4 * nI k)) + (nI (4 * i + j) - nI (4 * i + j) / 4 * 4) = nI (16 * z + (4 * k + j)) := by rw [hm, zd_ix3]
    have x3 : (16 * nI z) + nI (4 * i + j) = nI (16 * z + (4 * i + j)) := zd_ix2 z (4 * i + j)
    have bp := zd_pt_b he k (4 * i + j)
    have b1 := zd_T_b hv bp (4 * i + j)
    have b2 := zd_T_b hv bp (4 * i + k)
    have b3 := zd_T_b hv bp (4 * k + j)
    have hn := zd_T_n (i := i) (j := j) hv0 he e0 hk hj
    refine pk_le 16 (4 * i + j) (fun z => absurd z (by omega)) (fun _ => ⟨by decide, pk_in _ 96 (by omega) x1, by decide, pk_in _ 96 (by omega) x2, ?_⟩)
    refine nm_r (e' := zd_I (zd_T v (zd_pt e k (4 * i + j)) (4 * i + k) + zd_T v (zd_pt e k (4 * i + j)) (4 * k + j))) (by rw [pk_cl _ x1 (by omega), pk_cl _ x2 (by omega), h.1 _ (by omega), h.1 _ (by omega), zd_add]) ?_
    refine ⟨pk_in _ 96 (by omega) x3, zd_le (zd_T v (zd_pt e k (4 * i + j)) (4 * i + j)) (zd_T v (zd_pt e k (4 * i + j)) (4 * i + k) + zd_T v (zd_pt e k (4 * i + j)) (4 * k + j)) (by rw [pk_cl _ x3 (by omega), h.1 _ (by omega)]) rfl (by omega) (by omega) (fun g => ?_) (fun g => ?_)⟩
    · refine nm_r (nI_1 _) (hw s ⟨zd_Z_e h.1 (fun q hq => ?_), h.2⟩)
      by_cases eq : q = 4 * i + j
      · rw [eq, hn]
        omega
      · exact zd_T_o v e k (4 * i + j) q eq
    · refine ⟨pk_in _ 96 (by omega) x3, nm_r (zd_up x3 (by omega) rfl) (nm_r (nI_1 _) (hw _ ⟨zd_Z_u h.1 ?_ (fun q _ eq => zd_T_o v e k (4 * i + j) q eq), zd_out_u h.2 (by omega)⟩))⟩
      rw [hn]
      omega
theorem zd_t95 {post : St2 → Prop} {z : Nat} {v e : Nat → Int} {a1 a2 : Nat → Int32} (hz : z < 6) (e0 : e 0 = 0) (h1 : zd_Z z (zd_T v e) a1) (H : post (a1, a2)) : ∃ n, wX_tighten_95 post (nI z) n 0 a1 a2 := by
  refine pk_loop (σ := Unit) (fun n i _ => wX_tighten_95 post (nI z) n (nI i) a1 a2) (fun _ _ => True) 4 0 () (by omega) trivial ?_ ?_
  · intro n _ _
    exact pk_le 4 4 (fun _ => H) (fun z => absurd z (by omega))
  · intro n i _ hi _ hw
    refine pk_le 4 i (fun z => absurd z (by omega)) (fun _ => ⟨pk_in (16 * z + 5 * i) 96 (by omega) (zd_ix5 z i), zd_le 0 0 rfl ?_ (by omega) (by omega) (fun _ => nm_r (nI_1 i) (hw () trivial)) (fun g => absurd g (by omega))⟩)
    rw [pk_cl _ (zd_ix5 z i) (by omega), h1 (5 * i) (by omega), show 5 * i = 4 * i + i by omega, zd_T_at v e i hi]
    by_cases i0 : i = 0
    · rw [if_pos i0, i0, e0]
      exact zd_e (by omega)
    · rw [if_neg i0]
      exact zd_e (by omega)
theorem zd_E_b {e : Nat → Int} (he : ∀ i, 0 ≤ e i ∧ e i ≤ 9) (e0 : e 0 = 0) : ∀ k, (∀ i, 0 ≤ zd_E e k i ∧ zd_E e k i ≤ 9) ∧ zd_E e k 0 = 0 := by
  intro k
  induction k with
  | zero => exact ⟨he, e0⟩
  | succ k ih => exact ⟨fun i => zd_st_b ih.1 k i, zd_st_0 ih.1 ih.2 k⟩
theorem zd_tighten {post : St2 → Prop} {z : Nat} {v e : Nat → Int} {a1 a2 : Nat → Int32} (hz : z < 6)
    (hv : ∀ i, 0 ≤ v i ∧ v i ≤ 9) (hv0 : v 0 = 0) (he : ∀ i, 0 ≤ e i ∧ e i ≤ 9) (e0 : e 0 = 0) (h1 : zd_Z z (zd_T v e) a1)
    (H : ∀ a, zd_Z z (zd_T v (zd_E e 4)) a → zd_out z a1 a → post (a, a2)) : wpX_tighten post (a1, a2) (nI z) := by
  refine pk_loop (fun n k s => wX_tighten_2 post (nI z) n (nI k) s a2) (fun k s => zd_Z z (zd_T v (zd_E e k)) s ∧ zd_out z a1 s) 4 0 a1 (by omega) ⟨h1, zd_out_r z a1⟩ ?_ ?_
  · intro n s h
    exact pk_le 4 4 (fun _ => zd_t95 hz (zd_E_b he e0 4).2 h.1 (H s h.1 h.2)) (fun z => absurd z (by omega))
  · intro n k s hk h hw
    exact pk_le 4 k (fun z => absurd z (by omega)) (fun _ => zd_t9 hz hk hv hv0 (zd_E_b he e0 k).1 (zd_E_b he e0 k).2 h.1 h.2 (fun a ha ho => hw a ⟨ha, ho⟩))
end
section
/-! copyTo, lower, least -/
theorem zd_copyTo {post : St2 → Prop} {y z : Nat} {M : Nat → Int} {a1 a2 : Nat → Int32} (hy : y < 6) (hz : z < 6) (hyz : y ≠ z) (hZ : zd_Z y M a1)
    (H : ∀ a x, zd_Z z M a → zd_out z a1 a → post (a, upd a2 z x)) : wpX_copyTo post (a1, a2) (nI y) (nI z) := by
  refine ⟨pk_in y 6 hy, pk_in z 6 hz, nm_r (zd_up rfl (by omega) rfl) ?_⟩
  refine pk_loop (fun n k s => wX_copyTo_14 post (nI y) (nI z) n (nI k) s _) (fun k s => (∀ q, q < k → s (16 * z + q) = zd_I (M q)) ∧ zd_out z a1 s) 16 0 a1 (by omega) ⟨fun q hq => absurd hq (by omega), zd_out_r z a1⟩ ?_ ?_
  · intro n s h
    exact pk_le 16 16 (fun _ => H s _ (fun q hq => h.1 q hq) h.2) (fun z => absurd z (by omega))
  · intro n k s hk h hw
    refine pk_le 16 k (fun z => absurd z (by omega)) (fun _ => ⟨pk_in (16 * y + k) 96 (by omega) (zd_ix2 y k), pk_in (16 * z + k) 96 (by omega) (zd_ix2 z k), nm_r (zd_up (v := zd_I (M k)) (zd_ix2 z k) (by omega) ?_) (nm_r (nI_1 k) (hw _ ⟨fun q hq => ?_, zd_out_u h.2 hk⟩))⟩)
    · rw [pk_cl _ (zd_ix2 y k) (by omega), h.2 _ (by omega)]
      exact hZ k hk
    · by_cases e : q = k
      · rw [e, pk_us]
      · rw [pk_un (by omega)]
        exact h.1 q (by omega)
theorem zd_lower {post : St2 → Prop} {z p : Nat} {M : Nat → Int} {c : Int} {a1 a2 : Nat → Int32} {y : Int32} (hz : z < 6) (hp : p < 16) (hy : y = nI p) (hZ : zd_Z z M a1) (h : M p ≤ c) (b1 : -1000000 ≤ M p) (b2 : c ≤ 1000000)
    (H : post (a1, a2)) : wpX_lower post (a1, a2) (nI z) y (zd_I c) := by
  subst hy
  refine ⟨pk_in (16 * z + p) 96 (by omega) (zd_ix2 z p), zd_le (M p) c ?_ rfl (by omega) (by omega) (fun _ => H) (fun g => absurd g (by omega))⟩
  rw [pk_cl _ (zd_ix2 z p) (by omega)]
  exact hZ p hp
/-- the zone of the one point v -/
def zd_0 (_ : Nat) : Int := 0
theorem zd_0_b : ∀ i, 0 ≤ zd_0 i ∧ zd_0 i ≤ 9 := by
  intro i
  unfold zd_0
  omega
theorem zd_E_0 : ∀ k i, zd_E zd_0 k i = 0 := by
  intro k
  induction k with
  | zero => exact fun _ => rfl
  | succ k ih =>
    intro i
    show zd_st (zd_E zd_0 k) k i = 0
    unfold zd_st
    rw [ih i, ih k]
    by_cases h : k = 0
    · rw [if_pos h]
    · rw [if_neg h]
      decide
/-- the point as far as it is read, the number i is next -/
def zd_pn (v : Nat → Int) (i : Nat) : Int := if i = 0 then (v 3 * 10 + v 2) * 10 + v 1 else if i = 1 then v 3 * 10 + v 2 else if i = 2 then v 3 else 0
theorem zd_pn_s (v : Nat → Int) {i : Nat} (hi : i < 3) : zd_pn v (i + 1) * 10 + v (i + 1) = zd_pn v i := by
  obtain rfl | rfl | rfl : i = 0 ∨ i = 1 ∨ i = 2 := by omega
  · rfl
  · rfl
  · show 0 * 10 + v 3 = v 3
    omega
theorem zd_least {post : Int32 → St2 → Prop} {v : Nat → Int} {a1 a2 : Nat → Int32} (hv : ∀ i, 0 ≤ v i ∧ v i ≤ 9) (hv0 : v 0 = 0) (hZ : zd_Z 1 (zd_T v zd_0) a1) (h2 : a2 1 = 0)
    (H : ∀ a b, zd_Z 1 (zd_T v zd_0) a → b 1 = 0 → post (zd_I ((v 3 * 10 + v 2) * 10 + v 1)) (a, b)) : wpX_least post (a1, a2) (nI 1) := by
  unfold wpX_least
  dsimp only
  refine zd_bad (by omega) (br_t rfl ⟨pk_in 1 6 (by omega), br_t ((zd_rd rfl (by omega)).trans h2) ?_⟩)
  refine zd_copyTo (y := 1) (z := 4) (by omega) (by omega) (by omega) hZ (fun a x ha ho => ?_)
  refine ⟨4, ?_⟩
  refine pk_loopD (fun n i (s : Int32 × (Nat → Int32) × (Nat → Int32)) => wX_least_35 post n s.1 (nI i) s.2.1 s.2.2) (fun i s => i ≤ 3 ∧ s.1 = zd_I (zd_pn v i) ∧ zd_Z 4 (zd_T v zd_0) s.2.1 ∧ zd_Z 1 (zd_T v zd_0) s.2.1 ∧ s.2.2 1 = 0) ?_ ?_ 3 (0, a, upd a2 4 x) ⟨by omega, rfl, ha, zd_out_Z ho (by omega) hZ, ?_⟩
  · intro n s h
    obtain ⟨_, h1, _, h3, h4⟩ := h
    refine pk_le 0 0 (fun _ => ?_) (fun z => absurd z (by omega))
    rw [h1]
    exact H s.2.1 s.2.2 h3 h4
  · intro n i s h hw
    obtain ⟨h0, h1, h2, h3, h4⟩ := h
    have hvi := hv (i + 1)
    have x1 : (64 : Int32) + nI (i + 1) = nI (16 * 4 + (i + 1)) := nI_add 64 (i + 1)
    have x2 : (4 : Int32) * nI (i + 1) = nI (4 * (i + 1)) := pk_mul 4 (i + 1)
    have hT : zd_T v zd_0 (i + 1) = -v (i + 1) := by
      have t := zd_T_at v zd_0 0 (j := i + 1) (by omega)
      rw [show 4 * 0 + (i + 1) = i + 1 by omega, if_neg (by omega), hv0] at t
      rw [t]
      omega
    have hT4 : zd_T v zd_0 (4 * (i + 1)) = v (i + 1) := by
      have t := zd_T_at v zd_0 (i + 1) (j := 0) (by omega)
      rw [if_pos rfl, hv0] at t
      rw [show 4 * (i + 1) = 4 * (i + 1) + 0 by omega, t]
      show v (i + 1) - 0 + 0 = v (i + 1)
      omega
    refine pk_le (i + 1) 0 (fun z => absurd z (by omega)) (fun _ => ⟨pk_in _ 96 (by omega) x1, nm_r (e' := zd_I (v (i + 1))) ?_ (nm_r (e' := zd_I (zd_pn v i)) ?_ ?_)⟩)
    · rw [pk_cl _ x1 (by omega), h2 (i + 1) (by omega), hT, zd_neg]
      exact zd_e (by omega)
    · rw [h1, ← zd_pn_s v (by omega : i < 3), ← zd_add, ← zd_mul]
      rfl
    · refine zd_lower (z := 4) (p := 4 * (i + 1)) (by omega) (by omega) x2 h2 (by omega) (by omega) (by omega) ?_
      refine zd_tighten (z := 4) (by omega) hv hv0 zd_0_b rfl h2 (fun b hb ho => nm_r (pk_m1 i) (hw (zd_I (zd_pn v i), b, s.2.2) ⟨by omega, rfl, zd_Z_e hb (fun k _ => ?_), zd_out_Z ho (by omega) h3, h4⟩))
      unfold zd_T
      rw [zd_E_0]
      rfl
  · show upd a2 4 x 1 = 0
    rw [pk_un (by omega)]
    exact h2
end
section
/-! count -/
def zd_th (M : Nat → Int) (x y : Int) : Int :=
  if max (max (-M 3) (x - M 7)) (y - M 11) ≤ min (min (M 12) (x + M 13)) (y + M 14) then min (min (M 12) (x + M 13)) (y + M 14) - max (max (-M 3) (x - M 7)) (y - M 11) + 1 else 0
theorem zd_at (z k : Nat) : nI (16 * z) + nI k = nI (16 * z + k) := nI_add _ _
theorem zd_thirds {post : Int32 → Prop} {z : Nat} {M : Nat → Int} {a1 a2 : Nat → Int32} {x y : Int} (hz : z < 4) (hZ : zd_Z z M a1) (hM : ∀ k, k < 16 → -100 ≤ M k ∧ M k ≤ 100) (hx : -100 ≤ x ∧ x ≤ 100) (hy : -100 ≤ y ∧ y ≤ 100)
    (hp : post (zd_I (zd_th M x y))) : wpX_thirds post (a1, a2) (nI (16 * z)) (zd_I x) (zd_I y) := by
  have m3 := hM 3 (by omega)
  have m7 := hM 7 (by omega)
  have m11 := hM 11 (by omega)
  have m12 := hM 12 (by omega)
  have m13 := hM 13 (by omega)
  have m14 := hM 14 (by omega)
  have r : ∀ k, k < 16 → a1 (nI (16 * z) + nI k).toNatClampNeg = zd_I (M k) := by
    intro k hk
    rw [pk_cl _ (zd_at z k) (by omega)]
    exact hZ k hk
  have i : ∀ k, k < 16 → vp_in (nI (16 * z) + nI k) 96 := fun k hk => pk_in _ 96 (by omega) (zd_at z k)
  unfold wpX_thirds
  dsimp only
  refine ⟨i 3 (by omega), i 7 (by omega), ?_⟩
  refine zd_greater (-M 3) (x - M 7) ((congrArg (fun t => -t) (r 3 (by omega))).trans (zd_neg _)) ((congrArg (fun t => zd_I x - t) (r 7 (by omega))).trans (zd_sub _ _)) (by omega) (by omega) ?_
  refine ⟨i 11 (by omega), ?_⟩
  refine zd_greater (max (-M 3) (x - M 7)) (y - M 11) rfl ((congrArg (fun t => zd_I y - t) (r 11 (by omega))).trans (zd_sub _ _)) (by omega) (by omega) ?_
  refine ⟨i 12 (by omega), i 13 (by omega), ?_⟩
  refine zd_lesser (M 12) (x + M 13) (r 12 (by omega)) ((congrArg (fun t => zd_I x + t) (r 13 (by omega))).trans (zd_add _ _)) (by omega) (by omega) ?_
  refine ⟨i 14 (by omega), ?_⟩
  refine zd_lesser (min (M 12) (x + M 13)) (y + M 14) rfl ((congrArg (fun t => zd_I y + t) (r 14 (by omega))).trans (zd_add _ _)) (by omega) (by omega) ?_
  refine zd_le _ _ rfl rfl (by omega) (by omega) (fun g => ?_) (fun g => ?_)
  · unfold zd_th at hp
    rw [if_pos g, ← zd_add, ← zd_sub] at hp
    exact hp
  · unfold zd_th at hp
    rw [if_neg (by omega)] at hp
    exact hp
/-- a zone whose points are (a + t, b + t, ..), t up to m, with h third numbers each -/
theorem zd_count {post : Int32 → Prop} {z m : Nat} {M : Nat → Int} {a1 a2 : Nat → Int32} {a b h : Int} (hz : z < 4) (hZ : zd_Z z M a1) (h2 : a2 z = 0) (hM : ∀ k, k < 16 → -100 ≤ M k ∧ M k ≤ 100)
    (ha : 0 ≤ a ∧ a ≤ 9) (hb : 0 ≤ b ∧ b ≤ 9) (hm : m ≤ 9) (M1 : M 1 = -a) (M4 : M 4 = a + m) (M2 : M 2 = -b) (M6 : M 6 = a - b) (M8 : M 8 = b + m) (M9 : M 9 = b - a)
    (ht : ∀ t : Nat, t ≤ m → zd_th M (a + t) (b + t) = h) (hp : post (zd_I (((m : Int) + 1) * h))) : wpX_count post (a1, a2) (nI z) := by
  have r : ∀ k, k < 16 → a1 (nI (16 * z) + nI k).toNatClampNeg = zd_I (M k) := by
    intro k hk
    rw [pk_cl _ (zd_at z k) (by omega)]
    exact hZ k hk
  have i : ∀ k, k < 16 → vp_in (nI (16 * z) + nI k) 96 := fun k hk => pk_in _ 96 (by omega) (zd_at z k)
  unfold wpX_count
  dsimp only
  refine zd_bad hz (br_t rfl ⟨pk_in z 6 (by omega), br_t ((zd_rd rfl (by omega)).trans h2) ?_⟩)
  refine nm_r (pk_mul 16 z) ⟨i 1 (by omega), nm_r (e' := zd_I (a + ((0 : Nat) : Int))) ?_ ?_⟩
  · refine (congrArg (fun t => -t) (r 1 (by omega))).trans ((zd_neg _).trans (zd_e ?_))
    omega
  have L : ∃ n, wX_count_41 post (nI (16 * z)) a1 a2 n (zd_I (((0 : Nat) : Int) * h)) (zd_I (a + ((0 : Nat) : Int))) := by
    refine pk_loop (σ := Unit) (fun n t _ => wX_count_41 post (nI (16 * z)) a1 a2 n (zd_I ((t : Int) * h)) (zd_I (a + (t : Int)))) (fun _ _ => True) (m + 1) 0 () (by omega) trivial ?_ ?_
    · intro n _ _
      refine ⟨i 4 (by omega), zd_lt (a + m) (a + ((m + 1 : Nat) : Int)) ((r 4 (by omega)).trans (zd_e M4)) rfl (by omega) (by omega) (fun _ => ?_) (fun g => absurd g (by omega))⟩
      rw [show ((m + 1 : Nat) : Int) = (m : Int) + 1 by omega]
      exact hp
    · intro n t _ htm _ hw
      refine ⟨i 4 (by omega), zd_lt (a + m) (a + (t : Int)) ((r 4 (by omega)).trans (zd_e M4)) rfl (by omega) (by omega) (fun g => absurd g (by omega)) (fun _ => ?_)⟩
      refine ⟨i 2 (by omega), i 6 (by omega), ?_⟩
      refine zd_greater b (b + (t : Int)) ((congrArg (fun t => -t) (r 2 (by omega))).trans ((zd_neg _).trans (zd_e (by omega)))) ((congrArg (fun u => zd_I (a + (t : Int)) - u) (r 6 (by omega))).trans ((zd_sub _ _).trans (zd_e (by omega)))) (by omega) (by omega) ?_
      rw [show max b (b + (t : Int)) = b + (t : Int) by omega]
      refine ⟨i 8 (by omega), i 9 (by omega), ?_⟩
      refine zd_lesser (b + m) (b + (t : Int)) ((r 8 (by omega)).trans (zd_e M8)) ((congrArg (fun u => zd_I (a + (t : Int)) + u) (r 9 (by omega))).trans ((zd_add _ _).trans (zd_e (by omega)))) (by omega) (by omega) ?_
      rw [show min (b + (m : Int)) (b + (t : Int)) = b + (t : Int) by omega]
      refine ⟨2, ?_⟩
      refine zd_lt (b + (t : Int)) (b + (t : Int)) rfl rfl (by omega) (by omega) (fun g => absurd g (by omega)) (fun _ => ?_)
      refine zd_thirds hz hZ hM (by omega) (by omega) ?_
      rw [ht t (by omega)]
      refine nm_r (e' := zd_I (((t + 1 : Nat) : Int) * h)) ?_ (nm_r (e' := zd_I (b + (t : Int) + 1)) (zd_add _ 1) ?_)
      · rw [zd_add]
        refine zd_e ?_
        rw [show ((t + 1 : Nat) : Int) = (t : Int) + 1 by omega, Int.add_mul, Int.one_mul]
      · refine zd_lt (b + (t : Int)) (b + (t : Int) + 1) rfl rfl (by omega) (by omega) (fun _ => ?_) (fun g => absurd g (by omega))
        refine nm_r (e' := zd_I (a + ((t + 1 : Nat) : Int))) ((zd_add _ 1).trans (zd_e (by omega))) (hw () trivial)
  obtain ⟨n, hn⟩ := L
  rw [show ((0 : Nat) : Int) * h = 0 by rw [Int.natCast_zero, Int.zero_mul]] at hn
  exact ⟨n, hn⟩
end
section
/-! delay, bound, spread -/
/-- the numbers below i may go up to 9 -/
def zd_D (v : Nat → Int) (i q : Nat) : Int := if 1 ≤ q ∧ q < i then 9 - v q else 0
theorem zd_D_b {v : Nat → Int} (hv : ∀ i, 0 ≤ v i ∧ v i ≤ 9) (i q : Nat) : 0 ≤ zd_D v i q ∧ zd_D v i q ≤ 9 := by
  have h := hv q
  unfold zd_D
  by_cases c : 1 ≤ q ∧ q < i
  · rw [if_pos c]
    omega
  · rw [if_neg c]
    omega
theorem zd_delay {post : Int32 → St2 → Prop} {z : Nat} {v : Nat → Int} {a1 a2 : Nat → Int32} (hz : z < 4) (hv : ∀ i, 0 ≤ v i ∧ v i ≤ 9) (hv0 : v 0 = 0) (hZ : zd_Z z (zd_T v zd_0) a1) (h2 : a2 z = 0)
    (H : ∀ a, zd_Z z (zd_T v (zd_E (zd_D v 4) 4)) a → post 1 (a, a2)) : wpX_delay post (a1, a2) (nI z) := by
  unfold wpX_delay
  dsimp only
  refine zd_bad hz (br_t rfl ⟨pk_in z 6 (by omega), br_t ((zd_rd rfl (by omega)).trans h2) ?_⟩)
  refine pk_loop (fun n i s => wX_delay_23 post (nI z) n (nI i) s a2) (fun i s => 1 ≤ i ∧ zd_Z z (zd_T v (zd_D v i)) s) 4 1 a1 (by omega) ⟨by omega, zd_Z_e hZ (fun k _ => ?_)⟩ ?_ ?_
  · unfold zd_T zd_D
    rw [if_neg (c := 1 ≤ k / 4 ∧ k / 4 < 1) (by omega)]
    rfl
  · intro n s h
    exact pk_le 4 4 (fun _ => zd_tighten (by omega) hv hv0 (zd_D_b hv 4) rfl h.2 (fun a ha _ => zd_answer hz h2 (H a ha))) (fun z => absurd z (by omega))
  · intro n i s hi h hw
    obtain ⟨i1, h⟩ := h
    refine pk_le 4 i (fun z => absurd z (by omega)) (fun _ => ⟨pk_in (16 * z + 4 * i) 96 (by omega) (zd_ix4 z i), nm_r (zd_up (v := zd_I 9) (zd_ix4 z i) (by omega) rfl) (nm_r (nI_1 i) (hw _ ⟨by omega, zd_Z_u h ?_ (fun k hk hne => ?_)⟩))⟩)
    · have t := zd_T_at v (zd_D v (i + 1)) i (j := 0) (by omega)
      rw [show 4 * i + 0 = 4 * i by omega, if_pos rfl, hv0] at t
      rw [t]
      unfold zd_D
      rw [if_pos (by omega)]
      omega
    · unfold zd_T
      by_cases k0 : k % 4 = 0
      · rw [if_pos k0, if_pos k0]
        unfold zd_D
        by_cases c : 1 ≤ k / 4 ∧ k / 4 < i
        · rw [if_pos c, if_pos (by omega)]
        · rw [if_neg c, if_neg (by omega)]
      · rw [if_neg k0, if_neg k0]
theorem zd_bound4 {post : Int32 → Prop} {M : Nat → Int} {a1 a2 : Nat → Int32} (hZ : zd_Z 1 M a1) (h2 : a2 1 = 0) (hp : post (zd_I (M 4))) : wpX_bound post (a1, a2) (nI 1) (nI 4) := by
  unfold wpX_bound
  dsimp only
  refine zd_bad (by omega) (br_t rfl ?_)
  unfold wpX_badPair
  dsimp only
  refine br_f (by decide) (br_f (by decide) ⟨by decide, by decide, br_f (by decide) (br_t rfl ⟨pk_in 1 6 (by omega), br_t ((zd_rd rfl (by omega)).trans h2) ⟨pk_in (16 * 1 + 4) 96 (by omega) (zd_ix2 1 4), ?_⟩⟩)⟩)
  rw [pk_cl _ (zd_ix2 1 4) (by omega), hZ 4 (by omega)]
  exact hp
theorem zd_spread6 {post : Int32 → Prop} {M : Nat → Int} {a1 a2 : Nat → Int32} (hZ : zd_Z 1 M a1) (h2 : a2 1 = 0) (hp : post (zd_I (M 6 + M 9 + 1))) : wpX_spread post (a1, a2) (nI 1) (nI 6) := by
  unfold wpX_spread
  dsimp only
  refine zd_bad (by omega) (br_t rfl ?_)
  unfold wpX_badPair
  dsimp only
  refine br_f (by decide) (br_f (by decide) ⟨by decide, by decide, br_f (by decide) (br_t rfl ⟨by decide, by decide, nm_r (e' := nI 9) (by decide) ⟨pk_in 1 6 (by omega), br_t ((zd_rd rfl (by omega)).trans h2) ⟨pk_in (16 * 1 + 6) 96 (by omega) (zd_ix2 1 6), pk_in (16 * 1 + 9) 96 (by omega) (zd_ix2 1 9), ?_⟩⟩⟩)⟩)
  rw [pk_cl _ (zd_ix2 1 6) (by omega), pk_cl _ (zd_ix2 1 9) (by omega), hZ 6 (by omega), hZ 9 (by omega), zd_add, show (1 : Int32) = zd_I 1 from rfl, zd_add]
  exact hp
end
section
/-! the law -/
def zd_v (a b c : Nat) (i : Nat) : Int := if i = 1 then (a : Int) else if i = 2 then (b : Int) else if i = 3 then (c : Int) else 0
theorem zd_v_b {a b c : Nat} (ha : a ≤ 9) (hb : b ≤ 9) (hc : c ≤ 9) (i : Nat) : 0 ≤ zd_v a b c i ∧ zd_v a b c i ≤ 9 := by
  unfold zd_v
  omega
theorem zd_dig (y : Int32) : ∃ a, a ≤ 9 ∧ (y &&& 15) - (y &&& 15) / 10 * 10 = nI a := by
  obtain ⟨j, hj, e⟩ := pk_andE y 4 (m := 15) (by decide)
  refine ⟨j % 10, by omega, ?_⟩
  rw [e]
  exact pk_rem (a := j) (d := 10) (by omega) (by omega) (by omega)
theorem zd_16 {k : Nat} (hk : k < 16) : k = 0 ∨ k = 1 ∨ k = 2 ∨ k = 3 ∨ k = 4 ∨ k = 5 ∨ k = 6 ∨ k = 7 ∨ k = 8 ∨ k = 9 ∨ k = 10 ∨ k = 11 ∨ k = 12 ∨ k = 13 ∨ k = 14 ∨ k = 15 := by omega
/-- after three resets: the zone of one point -/
theorem zd_M3 (a b c : Nat) {k : Nat} (hk : k < 16) : zd_T (zd_v a b c) zd_0 k = zd_R 3 c c (zd_R 2 b b (zd_R 1 a a zd_F 4) 4) 4 k := by
  obtain rfl | rfl | rfl | rfl | rfl | rfl | rfl | rfl | rfl | rfl | rfl | rfl | rfl | rfl | rfl | rfl := zd_16 hk
  all_goals (simp [zd_R, zd_T, zd_v, zd_0, zd_F]; try omega)
/-- up to m more, all alike -/
def zd_m (m i : Nat) : Int := if i = 0 then 0 else (m : Int)
theorem zd_E_4 (e : Nat → Int) {i : Nat} (h1 : 1 ≤ i) (hi : i < 4) : zd_E e 4 i = min (min (e 1) (e 2)) (e 3) := by
  show zd_st (zd_st (zd_st (zd_st e 0) 1) 2) 3 i = _
  obtain rfl | rfl | rfl : i = 1 ∨ i = 2 ∨ i = 3 := by omega
  all_goals (simp [zd_st]; try omega)
theorem zd_E_m {a b c m : Nat} (ha : a ≤ 9) (hb : b ≤ 9) (hc : c ≤ 9) (hm : m = 9 - max (max a b) c) {i : Nat} (hi : i < 4) : zd_m m i = zd_E (zd_D (zd_v a b c) 4) 4 i := by
  by_cases h0 : i = 0
  · rw [h0, (zd_E_b (zd_D_b (zd_v_b ha hb hc) 4) rfl 4).2]
    rfl
  · rw [zd_E_4 _ (by omega) hi]
    unfold zd_m
    rw [if_neg h0]
    simp [zd_D, zd_v]
    omega
theorem zd_M4 {a b c m : Nat} (ha : a ≤ 9) (hb : b ≤ 9) (hc : c ≤ 9) (hm : m = 9 - max (max a b) c) {k : Nat} (hk : k < 16) : zd_T (zd_v a b c) (zd_m m) k = zd_T (zd_v a b c) (zd_E (zd_D (zd_v a b c) 4) 4) k := by
  unfold zd_T
  rw [zd_E_m ha hb hc hm (by omega : k / 4 < 4)]
theorem zd_m_b {m : Nat} (hm : m ≤ 9) (i : Nat) : 0 ≤ zd_m m i ∧ zd_m m i ≤ 9 := by
  unfold zd_m
  omega
/-- points along the line -/
theorem zd_countT {post : Int32 → Prop} {a b c m : Nat} {e : Nat → Int} {a1 a2 : Nat → Int32} (ha : a ≤ 9) (hb : b ≤ 9) (hc : c ≤ 9) (hm : m ≤ 9) (he : ∀ i, 0 ≤ e i ∧ e i ≤ 9) (e1 : e 1 = m) (e2 : e 2 = m) (e3 : e 3 = m)
    (hZ : zd_Z 1 (zd_T (zd_v a b c) e) a1) (h2 : a2 1 = 0) (hp : post (zd_I (((m : Int) + 1) * 1))) : wpX_count post (a1, a2) (nI 1) := by
  refine zd_count (a := a) (b := b) (h := 1) (by omega) hZ h2 (fun k _ => zd_T_b (zd_v_b ha hb hc) he k) (by omega) (by omega) hm ?_ ?_ ?_ ?_ ?_ ?_ ?_ hp
  · simp [zd_T, zd_v]
  · simp [zd_T, zd_v, e1]
  · simp [zd_T, zd_v]
  · simp [zd_T, zd_v]
  · simp [zd_T, zd_v, e2]
  · simp [zd_T, zd_v]
  · intro t ht
    simp [zd_th, zd_T, zd_v, e3]
    omega
/-- the third number is forgotten -/
theorem zd_countG {post : Int32 → Prop} {a b c m : Nat} {a1 a2 : Nat → Int32} (ha : a ≤ 9) (hb : b ≤ 9) (hc : c ≤ 9) (hm : m ≤ 9)
    (hZ : zd_Z 1 (zd_R 3 9 0 (zd_T (zd_v a b c) (zd_m m)) 4) a1) (h2 : a2 1 = 0) (hp : post (zd_I (((m : Int) + 1) * 10))) : wpX_count post (a1, a2) (nI 1) := by
  refine zd_count (a := a) (b := b) (h := 10) (by omega) hZ h2 (fun k hk => ?_) (by omega) (by omega) hm ?_ ?_ ?_ ?_ ?_ ?_ ?_ hp
  · have q1 := zd_T_b (zd_v_b ha hb hc) (zd_m_b hm) (k % 4)
    have q2 := zd_T_b (zd_v_b ha hb hc) (zd_m_b hm) (4 * (k / 4))
    have q3 := zd_T_b (zd_v_b ha hb hc) (zd_m_b hm) k
    obtain rfl | rfl | rfl | rfl | rfl | rfl | rfl | rfl | rfl | rfl | rfl | rfl | rfl | rfl | rfl | rfl := zd_16 hk
    all_goals (simp [zd_R, zd_T, zd_v, zd_m]; try omega)
  · simp [zd_R, zd_T, zd_v]
  · simp [zd_R, zd_T, zd_v, zd_m]
  · simp [zd_R, zd_T, zd_v]
  · simp [zd_R, zd_T, zd_v]
  · simp [zd_R, zd_T, zd_v, zd_m]
  · simp [zd_R, zd_T, zd_v]
  · intro t ht
    simp [zd_th, zd_R, zd_T, zd_v, zd_m]
    omega
theorem zd_tail {mc ms a b c t kc ks : Nat} {a1 a2 : Nat → Int32} {x5 x6 x7 x8 : Int32} (ha : a ≤ 9) (hb : b ≤ 9) (hc : c ≤ 9) (ht : t = max (max a b) c)
    (hZ : zd_Z 1 (zd_T (zd_v a b c) (zd_m (9 - t))) a1) (h2 : a2 1 = 0) (h5 : x5 = zd_I (((c : Int) * 10 + b) * 10 + a)) (h6 : x6 = zd_I 1) (h7 : x7 = zd_I (10 - (t : Int))) (h8 : x8 = zd_I ((a : Int) + 9 - t)) :
    wL_lawOf_124 (fun r _ => r = 1) mc ms (nI a) (nI b) (nI c) x5 x6 x7 x8 (nI t) kc ks a1 a2 := by
  unfold wL_lawOf_124
  refine zd_forget (z := 1) (i := 3) (by omega) (by omega) (by omega) hZ h2 (fun g hg => ?_)
  refine zd_countG ha hb hc (by omega) hg h2 ?_
  refine zd_spread6 hg h2 ?_
  have q5 : x5 = (nI a + (10 * nI b)) + (100 * nI c) := by
    rw [h5, zd_nat a, zd_nat b, zd_nat c, show (10 : Int32) = zd_I 10 from rfl, show (100 : Int32) = zd_I 100 from rfl, zd_mul, zd_mul, zd_add, zd_add]
    exact zd_e (by omega)
  have q7 : x7 = 10 - nI t := by
    rw [h7, zd_nat t, show (10 : Int32) = zd_I 10 from rfl, zd_sub]
  have q8 : x8 = (nI a + 9) - nI t := by
    rw [h8, zd_nat a, zd_nat t, show (9 : Int32) = zd_I 9 from rfl, zd_add, zd_sub]
  have q9 : zd_I ((((9 - t : Nat) : Int) + 1) * 10) = 10 * (10 - nI t) := by
    rw [zd_nat t, show (10 : Int32) = zd_I 10 from rfl, zd_sub, zd_mul]
    exact zd_e (by omega)
  have q10 : zd_I (zd_R 3 9 0 (zd_T (zd_v a b c) (zd_m (9 - t))) 4 6 + zd_R 3 9 0 (zd_T (zd_v a b c) (zd_m (9 - t))) 4 9 + 1) = 1 := by
    refine (zd_e (b := 1) ?_).trans rfl
    simp [zd_R, zd_T, zd_v]
    omega
  exact br_t q5 (br_t h6 (br_t q7 (br_t q8 (br_t q9 (br_t q10 rfl)))))
theorem zd_law (p0 : Int32) : ∃ mc ms : Nat, 0 + mc ≤ 56 ∧ 0 + ms ≤ 896 ∧ wpL_lawOf (fun r _ => r = 1) mc ms () p0 := by
  obtain ⟨a, ha, ea⟩ := zd_dig p0
  obtain ⟨b, hb, eb⟩ := zd_dig (p0 >>> ((4 : Int32) &&& 31))
  obtain ⟨c, hc, ec⟩ := zd_dig (p0 >>> ((8 : Int32) &&& 31))
  refine ⟨56, 896, by omega, by omega, by omega, by omega, 55, 894, by omega, by omega, ?_⟩
  refine zd_init (by omega) (by omega) (fun a1 a2 h1 h2 => ?_)
  refine ⟨by decide, nm_r ea ⟨by decide, nm_r eb ⟨by decide, nm_r ec ?_⟩⟩⟩
  refine zd_reset (z := 1) (i := 1) (c := a) (by omega) (by omega) (by omega) ha h1 h2 (fun a1 h1 => ?_)
  refine zd_reset (z := 1) (i := 2) (c := b) (by omega) (by omega) (by omega) hb h1 h2 (fun a1 h1 => ?_)
  refine zd_reset (z := 1) (i := 3) (c := c) (by omega) (by omega) (by omega) hc h1 h2 (fun a1 h1 => ?_)
  have hv := zd_v_b ha hb hc
  refine zd_least hv rfl (zd_Z_e h1 (fun k hk => zd_M3 a b c hk)) h2 (fun a1 a2 h1 h2 => ?_)
  refine zd_countT (m := 0) ha hb hc (by omega) zd_0_b rfl rfl rfl h1 h2 ?_
  refine zd_delay (z := 1) (by omega) hv rfl h1 h2 (fun a1 h1 => ?_)
  have h1' : zd_Z 1 (zd_T (zd_v a b c) (zd_m (9 - max (max a b) c))) a1 := zd_Z_e h1 (fun k hk => zd_M4 ha hb hc rfl hk)
  refine zd_countT (m := 9 - max (max a b) c) ha hb hc (by omega) (zd_m_b (by omega)) rfl rfl rfl h1' h2 ?_
  refine zd_bound4 h1' h2 ?_
  have F : ∀ t : Nat, t = max (max a b) c → wL_lawOf_124 (fun r _ => r = 1) 56 896 (nI a) (nI b) (nI c) (zd_I ((zd_v a b c 3 * 10 + zd_v a b c 2) * 10 + zd_v a b c 1)) (zd_I ((((0 : Nat) : Int) + 1) * 1)) (zd_I ((((9 - max (max a b) c : Nat) : Int) + 1) * 1)) (zd_I (zd_T (zd_v a b c) (zd_m (9 - max (max a b) c)) 4)) (nI t) (1 + 55) (2 + 894) a1 a2 := by
    intro t ht
    refine zd_tail ha hb hc ht (by rw [ht]; exact h1') h2 rfl rfl (zd_e (by omega)) (zd_e ?_)
    simp [zd_T, zd_v, zd_m]
    omega
  refine pk_le a b (fun h => pk_le b c (fun g => ?_) (fun g => ?_)) (fun h => pk_le a c (fun g => ?_) (fun g => ?_))
  · exact F c (by omega)
  · exact F b (by omega)
  · exact F c (by omega)
  · exact F a (by omega)
theorem i_vc (xs : Nat → Int32) (L : Nat) (hL : L ≤ 1) : wpL_law (fun r => r = 1) L xs :=
  pk_le L 0 (fun _ => zd_law 0) (fun h => ⟨pk_in 0 L h rfl (by omega), zd_law _⟩)
end
