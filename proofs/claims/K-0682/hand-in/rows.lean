section
/-! rows of kit/rows (starting texts): an int by its bits, a byte's stores and casts -/
def bt (x : Int32) (i : Nat) : Bool := x.toBitVec.getLsbD i
theorem b_ext {x y : Int32} (h : ∀ i, i < 32 → bt x i = bt y i) : x = y := Int32.toBitVec_inj.mp (BitVec.eq_of_getLsbD_eq (fun i hi => h i hi))
theorem b_or (x y : Int32) (i : Nat) : bt (x ||| y) i = (bt x i || bt y i) := by unfold bt; rw [Int32.toBitVec_or, BitVec.getLsbD_or]
theorem b_and (x y : Int32) (i : Nat) : bt (x &&& y) i = (bt x i && bt y i) := by unfold bt; rw [Int32.toBitVec_and, BitVec.getLsbD_and]
theorem b_xor (x y : Int32) (i : Nat) : bt (x ^^^ y) i = (bt x i ^^ bt y i) := by unfold bt; rw [Int32.toBitVec_xor, BitVec.getLsbD_xor]
theorem b_big {x : Int32} {i : Nat} (h : 32 ≤ i) : bt x i = false := BitVec.getLsbD_of_ge _ _ h
theorem b_255 (i : Nat) : bt 255 i = decide (i < 8) := by
  rcases Nat.lt_or_ge i 32 with h | h
  · exact (by decide +kernel : ∀ i, i < 32 → bt 255 i = decide (i < 8)) i h
  · rw [b_big h, decide_eq_false (by omega)]
theorem b_m1 : ∀ i, i < 32 → bt (-1) i = true := by decide +kernel
theorem b_0 (i : Nat) : bt 0 i = false := BitVec.getLsbD_zero
theorem bp_b (x : Int32) : x.toInt8.toInt32 &&& 255 = x &&& 255 := by
  apply Int32.toBitVec_inj.mp
  rw [Int32.toBitVec_and, Int32.toBitVec_and, Int8.toBitVec_toInt32, Int32.toBitVec_toInt8]
  apply BitVec.eq_of_getLsbD_eq
  intro i hi
  rw [BitVec.getLsbD_and, BitVec.getLsbD_and]
  have hm : ∀ i < 32, 8 ≤ i → (255 : Int32).toBitVec.getLsbD i = false := by decide
  rcases Nat.lt_or_ge i 8 with z | z
  · rw [BitVec.getLsbD_signExtend, BitVec.getLsbD_signExtend, if_pos z, if_pos hi]
    simp only [z, hi, decide_true, Bool.true_and]
  · rw [hm i hi z]; simp
theorem pk_us {f : Nat → Int32} {k : Nat} {x : Int32} : upd f k x k = x := if_pos rfl
theorem pk_un {f : Nat → Int32} {k j : Nat} {x : Int32} (h : j ≠ k) : upd f k x j = f j := if_neg h
theorem pk_nb (z : Int32) : narrow .byte (.int z.toInt8.toInt32) = .int z.toInt8.toInt32 := congrArg Value.int (by simp)
theorem pk_fb (r : Int32) : fits .byte (.int r.toInt8.toInt32) = true := by
  have ⟨a, b⟩ := lg_i2b_range r
  have h1 : (-128 : Int32).toInt = -128 := by decide
  have h2 : (127 : Int32).toInt = 127 := by decide
  simp only [fits, Bool.and_eq_true, decide_eq_true_eq, Int32.le_iff_toInt_le, h1, h2]
  omega
theorem pk_vb (z : Int32) : vp_nar .byte z.toInt8.toInt32 = z.toInt8.toInt32 := by rw [vp_nar_byte]; simp
theorem pk_vs (z : Int32) : vp_nar .short z.toInt16.toInt32 = z.toInt16.toInt32 := by rw [vp_nar_short]; simp
/-! the mask of line j, and the three laws of level, change and mask -/
def db_m (j : Nat) : Int32 := (1 : Int32) <<< (nI j &&& 31)
theorem db_mb : ∀ j, j < 8 → ∀ i, i < 32 → bt (db_m j) i = decide (i = j) := by decide +kernel
/-- no bit at j or above -/
def db_lo (j : Nat) (c : Int32) : Prop := ∀ i, j ≤ i → bt c i = false
theorem db_lo0 : db_lo 0 0 := fun i _ => b_0 i
theorem db_los {j : Nat} {c : Int32} (h : db_lo j c) : db_lo (j + 1) c := fun i hi => h i (by omega)
theorem db_loo {j : Nat} (hj : j < 8) {c : Int32} (h : db_lo j c) : db_lo (j + 1) (c ||| db_m j) := by
  intro i hi
  rcases Nat.lt_or_ge i 32 with z | z
  · rw [b_or, h i (by omega), db_mb j hj i z, decide_eq_false (by omega)]; rfl
  · exact b_big z
theorem db_cm {j : Nat} (hj : j < 8) {c : Int32} (h : db_lo j c) : c &&& db_m j = 0 := by
  apply b_ext
  intro i hi
  rw [b_and, b_0, db_mb j hj i hi]
  by_cases e : i = j
  · rw [h i (by omega)]; rfl
  · rw [decide_eq_false e, Bool.and_false]
theorem db_bit {x y : Int32} (h : x &&& y = 0) (i : Nat) : (bt x i && bt y i) = false := by rw [← b_and, h, b_0]
theorem db_full {j : Nat} (hj : j < 8) {L : Int32} (h : ¬ L &&& db_m j = 0) : L &&& db_m j = db_m j := by
  cases hb : bt L j with
  | false =>
    exact absurd (b_ext (fun i hi => by
      rw [b_and, b_0, db_mb j hj i hi]
      by_cases e : i = j
      · rw [e, hb]; rfl
      · rw [decide_eq_false e, Bool.and_false])) h
  | true =>
    apply b_ext
    intro i hi
    rw [b_and, db_mb j hj i hi]
    by_cases e : i = j
    · rw [e, hb]; rfl
    · rw [decide_eq_false e, Bool.and_false]
/-- the level as it is under way shows line j as the level at the start -/
theorem db_A {L c m : Int32} (h : c &&& m = 0) : (L ^^^ c) &&& m = L &&& m := by
  apply b_ext
  intro i hi
  have q := db_bit h i
  rw [b_and, b_xor, b_and]
  revert q
  cases bt L i <;> cases bt c i <;> cases bt m i <;> decide
theorem db_B {L c m : Int32} (h : c &&& m = 0) (z : L &&& m = 0) : (L ^^^ c) ||| m = L ^^^ (c ||| m) := by
  apply b_ext
  intro i hi
  have q := db_bit h i
  have r := db_bit z i
  rw [b_or, b_xor, b_xor, b_or]
  revert q r
  cases bt L i <;> cases bt c i <;> cases bt m i <;> decide
theorem db_C {L c m : Int32} (h : c &&& m = 0) (z : L &&& m = m) : (L ^^^ c) &&& (m ^^^ (-1)) = L ^^^ (c ||| m) := by
  apply b_ext
  intro i hi
  have q := db_bit h i
  have r : (bt L i && bt m i) = bt m i := by rw [← b_and, z]
  rw [b_and, b_xor, b_xor, b_xor, b_or, b_m1 i hi]
  revert q r
  cases bt L i <;> cases bt c i <;> cases bt m i <;> decide
/-- at the end: eight bits -/
theorem db_r {r : Int32} (h : db_lo 8 r) : r &&& 255 = r := by
  apply b_ext
  intro i hi
  rw [b_and, b_255]
  rcases Nat.lt_or_ge i 8 with z | z
  · rw [decide_eq_true z, Bool.and_true]
  · rw [h i z]; rfl
theorem db_L {s r : Int32} (h : db_lo 8 r) : ((s &&& 255) ^^^ r).toInt8.toInt32 &&& 255 = (s &&& 255) ^^^ r := by
  rw [bp_b]
  apply b_ext
  intro i hi
  rw [b_and, b_xor, b_and, b_255]
  rcases Nat.lt_or_ge i 8 with z | z
  · rw [decide_eq_true z, Bool.and_true]
  · rw [h i z, decide_eq_false (by omega), Bool.and_false, Bool.and_false]; rfl
end
section
/-! one turn of the two loops: the same line, the same new value, the same change -/
def db_4 (w : Int32) : Prop := w = 0 ∨ w = 1 ∨ w = 2 ∨ w = 3
def db_ok (a : Nat → Int32) : Prop := ∀ j, db_4 (a j)
theorem db_up {a : Nat → Int32} (h : db_ok a) {j : Nat} {w : Int32} (hw : db_4 w) : db_ok (upd a j w) := by
  intro i
  by_cases e : i = j
  · rw [e, pk_us]; exact hw
  · rw [pk_un e]; exact h i
theorem db_same (a : Nat → Int32) (j : Nat) : upd a j (a j) = a := by
  funext i
  by_cases e : i = j
  · rw [e, pk_us]
  · rw [pk_un e]
theorem db_byte {w : Int32} (h : db_4 w) : vp_nar .byte w.toInt8.toInt32 = w := by
  rw [pk_vb]
  rcases h with h | h | h | h <;> rw [h] <;> decide
theorem db_short {w : Int32} (h : db_4 w) : w.toInt16.toInt32 = w := by
  rcases h with h | h | h | h <;> rw [h] <;> decide
theorem db_short' {w : Int32} (h : db_4 w) : vp_nar .short w.toInt16.toInt32 = w := by rw [pk_vs, db_short h]
theorem db_dec {w : Int32} (h : db_4 w) (h0 : ¬ w ≤ 0) : db_4 (w - 1) := by
  rcases h with h | h | h | h <;> rw [h] at h0 ⊢
  · exact absurd (by decide) h0
  · exact Or.inl (by decide)
  · exact Or.inr (Or.inl (by decide))
  · exact Or.inr (Or.inr (Or.inl (by decide)))
theorem db_inc {w : Int32} (h : db_4 w) (h0 : ¬ 3 ≤ w) : db_4 (w + 1) := by
  rcases h with h | h | h | h <;> rw [h] at h0 ⊢
  · exact Or.inr (Or.inl (by decide))
  · exact Or.inr (Or.inr (Or.inl (by decide)))
  · exact Or.inr (Or.inr (Or.inr (by decide)))
  · exact absurd (by decide) h0
theorem db_30 : ¬ (3 : Int32) = 0 := by decide
/-- behind the new value w of line j: one change c', for every way to go on, on both sides -/
theorem db_tail {j : Nat} (hj : j < 8) {L c : Int32} (hc : db_lo j c) {w : Int32} (hw : db_4 w) : ∃ c' : Int32, db_lo (j + 1) c' ∧
    (∀ (post : Int32 → SX → Prop) (J : Int32 → Int32 → Int32 → (Nat → Int32) → Prop) (x1 fs : Int32) (a : Nat → Int32), J (L ^^^ c') c' (nI (j + 1)) (upd a j w) → wX_sample_69 post J x1 (L ^^^ c) c (nI j) (db_m j) w fs a) ∧
    (∀ (post : Int32 → SY → Prop) (J : Int32 → Int32 → (Nat → Int32) → Prop) (x1 : Int32) (a : Nat → Int32), J c' (nI (j + 1)) a → wY_sample_72 post J x1 c (nI j) (db_m j) w L a) := by
  have hi : vp_in (nI j) 8 := vp_in_nI hj (by decide)
  have hk : (nI j).toNatClampNeg = j := nI_clamp (by omega)
  have hcm := db_cm hj hc
  have hA : (L ^^^ c) &&& db_m j = L &&& db_m j := db_A hcm
  by_cases z : L &&& db_m j = 0
  · have zA : (L ^^^ c) &&& db_m j = 0 := hA.trans z
    by_cases h3 : w = 3
    · have h0 : ¬ w = 0 := by rw [h3]; exact db_30
      refine ⟨c ||| db_m j, db_loo hj hc, fun post J x1 fs a h => ?_, fun post J x1 a h => ?_⟩
      · refine And.intro hi (nm_r (e' := upd a j w) (by rw [hk, db_byte hw]) (br_t h3 (br_t zA (nm_r (e' := L ^^^ (c ||| db_m j)) (db_B hcm z) (nm_e (nm_r (e' := nI (j + 1)) (nI_1 j) h))))))
      · refine br_t h3 (br_t z (nm_e (br_f h0 (nm_r (e' := nI (j + 1)) (nI_1 j) h))))
    · refine ⟨c, db_los hc, fun post J x1 fs a h => ?_, fun post J x1 a h => ?_⟩
      · exact And.intro hi (nm_r (e' := upd a j w) (by rw [hk, db_byte hw]) (br_f h3 (br_c (fun _ => br_t zA (nm_r (e' := nI (j + 1)) (nI_1 j) h)) (fun _ => nm_r (e' := nI (j + 1)) (nI_1 j) h))))
      · exact br_f h3 (br_c (fun _ => br_t z (nm_r (e' := nI (j + 1)) (nI_1 j) h)) (fun _ => nm_r (e' := nI (j + 1)) (nI_1 j) h))
  · have zA : ¬ (L ^^^ c) &&& db_m j = 0 := by rw [hA]; exact z
    by_cases h0 : w = 0
    · have h3 : ¬ w = 3 := by rw [h0]; exact Ne.symm db_30
      refine ⟨c ||| db_m j, db_loo hj hc, fun post J x1 fs a h => ?_, fun post J x1 a h => ?_⟩
      · exact And.intro hi (nm_r (e' := upd a j w) (by rw [hk, db_byte hw]) (br_f h3 (br_t h0 (br_f zA (nm_r (e' := L ^^^ (c ||| db_m j)) (db_C hcm (db_full hj z)) (nm_e (nm_r (e' := nI (j + 1)) (nI_1 j) h)))))))
      · exact br_f h3 (br_t h0 (br_f z (nm_e (nm_r (e' := nI (j + 1)) (nI_1 j) h))))
    · refine ⟨c, db_los hc, fun post J x1 fs a h => ?_, fun post J x1 a h => ?_⟩
      · exact And.intro hi (nm_r (e' := upd a j w) (by rw [hk, db_byte hw]) (br_c (fun _ => br_f zA (br_f h0 (nm_r (e' := nI (j + 1)) (nI_1 j) h))) (fun _ => br_f h0 (nm_r (e' := nI (j + 1)) (nI_1 j) h))))
      · exact br_c (fun _ => br_f z (br_f h0 (nm_r (e' := nI (j + 1)) (nI_1 j) h))) (fun _ => br_f h0 (nm_r (e' := nI (j + 1)) (nI_1 j) h))
/-- one turn -/
theorem db_turn {j : Nat} (hj : j < 8) (x1 : Int32) {L c : Int32} (hc : db_lo j c) {a : Nat → Int32} (ha : db_ok a) : ∃ (c' : Int32) (a' : Nat → Int32), db_lo (j + 1) c' ∧ db_ok a' ∧
    (∀ (post : Int32 → SX → Prop) (fs : Int32) (n : Nat), wX_sample_14 post x1 fs n (L ^^^ c') c' (nI (j + 1)) a' → wX_sample_14 post x1 fs (n + 1) (L ^^^ c) c (nI j) a) ∧
    (∀ (post : Int32 → SY → Prop) (n : Nat), wY_sample_4 post x1 L n c' (nI (j + 1)) a' → wY_sample_4 post x1 L (n + 1) c (nI j) a) := by
  have hi : vp_in (nI j) 8 := vp_in_nI hj (by decide)
  have hk : (nI j).toNatClampNeg = j := nI_clamp (by omega)
  have h8 : ¬ (8 : Int32) ≤ nI j := nI_ge (b := 8) hj (by decide)
  have hv : a (nI j).toNatClampNeg = a j := by rw [hk]
  by_cases hb : x1 &&& db_m j = 0
  · by_cases h0 : a j ≤ 0
    · obtain ⟨c', l, X, Y⟩ := db_tail (L := L) hj hc (ha j)
      refine ⟨c', a, l, ha, fun post fs n h => ?_, fun post n h => ?_⟩
      · exact br_f h8 (nm_r (e' := db_m j) rfl (And.intro hi (nm_r (e' := a j) hv (br_t hb (br_t h0 (X _ _ _ _ _ (by rw [db_same]; exact h)))))))
      · exact br_f h8 (nm_r (e' := db_m j) rfl (And.intro hi (nm_r (e' := a j) hv (br_t hb (br_t h0 (Y _ _ _ _ h))))))
    · have hw := db_dec (ha j) h0
      obtain ⟨c', l, X, Y⟩ := db_tail (L := L) hj hc hw
      refine ⟨c', upd a j (a j - 1), l, db_up ha hw, fun post fs n h => ?_, fun post n h => ?_⟩
      · exact br_f h8 (nm_r (e' := db_m j) rfl (And.intro hi (nm_r (e' := a j) hv (br_t hb (br_f h0 (nm_e (X _ _ _ _ _ h)))))))
      · exact br_f h8 (nm_r (e' := db_m j) rfl (And.intro hi (nm_r (e' := a j) hv (br_t hb (br_f h0 (And.intro hi (And.intro hi (nm_r (e' := upd a j (a j - 1)) (by rw [hk, db_short' hw]) (nm_r (e' := a j - 1) (by rw [hk, db_short hw]) (Y _ _ _ _ h))))))))))
  · by_cases h3 : 3 ≤ a j
    · obtain ⟨c', l, X, Y⟩ := db_tail (L := L) hj hc (ha j)
      refine ⟨c', a, l, ha, fun post fs n h => ?_, fun post n h => ?_⟩
      · exact br_f h8 (nm_r (e' := db_m j) rfl (And.intro hi (nm_r (e' := a j) hv (br_f hb (br_t h3 (X _ _ _ _ _ (by rw [db_same]; exact h)))))))
      · exact br_f h8 (nm_r (e' := db_m j) rfl (And.intro hi (nm_r (e' := a j) hv (br_f hb (br_t h3 (Y _ _ _ _ h))))))
    · have hw := db_inc (ha j) h3
      obtain ⟨c', l, X, Y⟩ := db_tail (L := L) hj hc hw
      refine ⟨c', upd a j (a j + 1), l, db_up ha hw, fun post fs n h => ?_, fun post n h => ?_⟩
      · exact br_f h8 (nm_r (e' := db_m j) rfl (And.intro hi (nm_r (e' := a j) hv (br_f hb (br_f h3 (nm_e (X _ _ _ _ _ h)))))))
      · exact br_f h8 (nm_r (e' := db_m j) rfl (And.intro hi (nm_r (e' := a j) hv (br_f hb (br_f h3 (And.intro hi (And.intro hi (nm_r (e' := upd a j (a j + 1)) (by rw [hk, db_short' hw]) (nm_r (e' := a j + 1) (by rw [hk, db_short hw]) (Y _ _ _ _ h))))))))))
/-- both loops, from line j on: one answer r and one content a' -/
theorem db_loop (x1 L : Int32) : ∀ d j : Nat, j + d = 8 → ∀ (c : Int32) (a : Nat → Int32), db_lo j c → db_ok a → ∃ (r : Int32) (a' : Nat → Int32), db_lo 8 r ∧ db_ok a' ∧
    (∀ (post : Int32 → SX → Prop) (fs : Int32), post (r &&& 255) ((L ^^^ r).toInt8.toInt32, a') → wX_sample_14 post x1 fs (d + 1) (L ^^^ c) c (nI j) a) ∧
    (∀ (post : Int32 → SY → Prop), post r (L ^^^ r, a') → wY_sample_4 post x1 L (d + 1) c (nI j) a) := by
  intro d
  induction d with
  | zero =>
    intro j hj c a hc ha
    have e : j = 8 := by omega
    subst e
    have h8 : (8 : Int32) ≤ nI 8 := by decide +kernel
    exact ⟨c, a, hc, ha, fun post fs h => br_t h8 ⟨pk_nb _, pk_fb _, h⟩, fun post h => br_t h8 (nm_e h)⟩
  | succ d ih =>
    intro j hj c a hc ha
    obtain ⟨c1, a1, l1, o1, X1, Y1⟩ := db_turn (j := j) (by omega) x1 (L := L) hc ha
    obtain ⟨r, a', l, o, X, Y⟩ := ih (j + 1) (by omega) c1 a1 l1 o1
    exact ⟨r, a', l, o, fun post fs h => X1 post fs (d + 1) (X post fs h), fun post h => Y1 post (d + 1) (Y post h)⟩
end
section
/-- the same integrators, each 0 to 3; the reference's level is the component's byte read unsigned -/
def i_Rel (k : Nat) (u : SX) (v : SY) : Prop := ∃ (s : Int32) (a : Nat → Int32), db_ok a ∧ u = (s, a) ∧ v = (s &&& 255, a)
theorem i_up {k : Nat} {u : SX} {v : SY} (h : i_Rel k u v) : i_Rel (k + 2) u v := h
theorem i_vc0 : wpX_init (fun u => wpY_init (fun v => i_Rel 0 u v)) := ⟨0, fun _ => 0, fun _ => Or.inl rfl, rfl, congrArg (fun z => (z, fun _ => 0)) (by decide +kernel : (0 : Int32) = 0 &&& 255)⟩
theorem i_vc_sample {k : Nat} {u : SX} {v : SY} (I : i_Rel k u v) (hk : k + 2 ≤ 1024) (v1 : Int32) : wpX_sample (fun r u' => wpY_sample (fun r' v' => r' = r ∧ i_Rel (k + 2) u' v') v v1) u v1 := by
  obtain ⟨s, a, ha, rfl, rfl⟩ := I
  obtain ⟨r, a', l, o, X, Y⟩ := db_loop v1 (s &&& 255) 8 0 rfl 0 a db_lo0 ha
  have e : (s &&& 255) ^^^ 0 = s &&& 255 := Int32.xor_zero
  rw [e] at X
  refine nm_e ⟨9, X _ s ⟨9, Y _ ⟨(db_r l).symm, ?_⟩⟩⟩
  exact ⟨_, a', o, rfl, by rw [db_L l]⟩
theorem i_vc_level {k : Nat} {u : SX} {v : SY} (I : i_Rel k u v) (hk : k + 2 ≤ 1024) : wpX_level (fun r => wpY_level (fun r' => r' = r ∧ i_Rel (k + 2) u v) v) u := by
  obtain ⟨s, a, ha, rfl, rfl⟩ := I
  exact ⟨rfl, s, a, ha, rfl, rfl⟩
theorem i_vc_integ {k : Nat} {u : SX} {v : SY} (I : i_Rel k u v) (hk : k + 2 ≤ 1024) (v1 : Int32) : wpX_integ (fun r => wpY_integ (fun r' => r' = r ∧ i_Rel (k + 2) u v) v v1) u v1 := by
  have I' := i_up I
  obtain ⟨s, a, ha, rfl, rfl⟩ := I
  by_cases h0 : v1 < 0
  · exact br_t h0 (br_t h0 ⟨rfl, I'⟩)
  · by_cases h7 : v1 ≤ 7
    · have hi : vp_in v1 8 := by
        obtain ⟨j, hj, rfl⟩ := nI_of2 (n := 7) (by decide) h0 h7
        exact vp_in_nI (by omega) (by decide)
      exact br_f h0 (br_t h7 (And.intro hi (br_f h0 (br_t h7 (And.intro hi ⟨rfl, I'⟩)))))
    · exact br_f h0 (br_f h7 (br_f h0 (br_f h7 ⟨rfl, I'⟩)))
end
