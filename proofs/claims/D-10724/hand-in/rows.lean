section
/-! bits of an Int32, and numbers made of the low six bits alone -/
def kb_t (x : Int32) (i : Nat) : Bool := x.toBitVec.getLsbD i
theorem kb_ext {x y : Int32} (h : ∀ i, i < 32 → kb_t x i = kb_t y i) : x = y := Int32.toBitVec_inj.mp (BitVec.eq_of_getLsbD_eq (fun i hi => h i hi))
theorem kb_or (x y : Int32) (i : Nat) : kb_t (x ||| y) i = (kb_t x i || kb_t y i) := by unfold kb_t; rw [Int32.toBitVec_or, BitVec.getLsbD_or]
theorem kb_and (x y : Int32) (i : Nat) : kb_t (x &&& y) i = (kb_t x i && kb_t y i) := by unfold kb_t; rw [Int32.toBitVec_and, BitVec.getLsbD_and]
theorem kb_xor (x y : Int32) (i : Nat) : kb_t (x ^^^ y) i = (kb_t x i ^^ kb_t y i) := by unfold kb_t; rw [Int32.toBitVec_xor, BitVec.getLsbD_xor]
theorem kb_big {x : Int32} {i : Nat} (h : 32 ≤ i) : kb_t x i = false := BitVec.getLsbD_of_ge _ _ h
theorem kb_m1 : ∀ i, i < 32 → kb_t (-1) i = true := by decide +kernel
theorem kb_0 (i : Nat) : kb_t 0 i = false := BitVec.getLsbD_zero
theorem kb_not (x : Int32) {i : Nat} (hi : i < 32) : kb_t (x ^^^ (-1)) i = !kb_t x i := by rw [kb_xor, kb_m1 i hi, Bool.xor_true]
theorem kb_63 (i : Nat) : kb_t 63 i = decide (i < 6) := by
  rcases Nat.lt_or_ge i 32 with h | h
  · exact (by decide +kernel : ∀ i, i < 32 → kb_t 63 i = decide (i < 6)) i h
  · rw [kb_big h, decide_eq_false (by omega)]
/-- one bit, the k-th -/
theorem kb_one : ∀ k, k < 6 → ∀ i, i < 32 → kb_t ((1 : Int32) <<< (nI k &&& 31)) i = decide (i = k) := by decide +kernel
/-- x has low bits alone -/
def kb_low (x : Int32) : Prop := ∀ i, kb_t x i = true → i < 6
theorem kb_low_and (x : Int32) : kb_low (x &&& 63) := by
  intro i h
  rw [kb_and, kb_63, Bool.and_eq_true, decide_eq_true_eq] at h
  exact h.2
theorem kb_low_andL {x : Int32} (y : Int32) (hx : kb_low x) : kb_low (x &&& y) := by
  intro i h
  rw [kb_and, Bool.and_eq_true] at h
  exact hx i h.1
theorem kb_low_or {x y : Int32} (hx : kb_low x) (hy : kb_low y) : kb_low (x ||| y) := by
  intro i h
  rw [kb_or, Bool.or_eq_true] at h
  exact h.elim (hx i) (hy i)
theorem kb_low_eq {x : Int32} (hx : kb_low x) : x &&& 63 = x := by
  apply kb_ext
  intro i hi
  rw [kb_and, kb_63]
  cases h : kb_t x i
  · rfl
  · rw [decide_eq_true (hx i h)]; rfl
theorem kb_low_nI {x : Int32} (hx : kb_low x) : ∃ j : Nat, j < 64 ∧ x = nI j := by
  obtain ⟨j, hj, e⟩ := pk_andE x (m := 63) 6 (by decide)
  exact ⟨j, hj, by rw [← e, kb_low_eq hx]⟩
theorem kb_orN (a b : Nat) : nI a ||| nI b = nI (a ||| b) := by
  apply Int32.toBitVec_inj.1
  show BitVec.ofNat 32 a ||| BitVec.ofNat 32 b = BitVec.ofNat 32 (a ||| b)
  apply BitVec.eq_of_getLsbD_eq
  intro i hi
  simp [hi]
/-- more bits, a greater number -/
theorem kb_le {x y : Int32} (hx : kb_low x) (hy : kb_low y) : x ≤ x ||| y := by
  obtain ⟨a, ha, rfl⟩ := kb_low_nI hx
  obtain ⟨b, hb, rfl⟩ := kb_low_nI hy
  rw [kb_orN]
  have h : a ||| b < 2 ^ 6 := Nat.or_lt_two_pow ha hb
  exact nI_le Nat.left_le_or (by omega)
/-- p is a part of m -/
def kb_sub (p m : Int32) : Prop := ∀ i, kb_t p i = true → kb_t m i = true
theorem kb_sub_r (m : Int32) : kb_sub m m := fun _ h => h
theorem kb_sub_and {p m : Int32} (y : Int32) (h : kb_sub p m) : kb_sub (p &&& y) m := by
  intro i hi
  rw [kb_and, Bool.and_eq_true] at hi
  exact h i hi.1
theorem kb_sub_low {p m : Int32} (h : kb_sub p m) (hm : kb_low m) : kb_low p := fun i hi => hm i (h i hi)
theorem kb_sub_or {v p m : Int32} (h : kb_sub p m) : (v ||| p) ||| m = v ||| m := by
  apply kb_ext
  intro i hi
  rw [kb_or, kb_or, kb_or]
  have hp := h i
  revert hp
  cases kb_t v i <;> cases kb_t p i <;> cases kb_t m i <;> simp
/-- a number of the pattern is at most the greatest one -/
theorem kb_top {v p m : Int32} (hv : kb_low v) (h : kb_sub p m) (hm : kb_low m) : v ||| p ≤ v ||| m := by
  have t := kb_le (kb_low_or hv (kb_sub_low h hm)) hm
  rwa [kb_sub_or h] at t
/-- a number of the pattern has the pattern's known bits -/
theorem kb_pat {x p m : Int32} (h : kb_sub p m) : ((x &&& (m ^^^ (-1))) ||| p) &&& (m ^^^ (-1)) = x &&& (m ^^^ (-1)) := by
  apply kb_ext
  intro i hi
  rw [kb_and, kb_or, kb_and, kb_not m hi]
  have hp := h i
  revert hp
  cases kb_t x i <;> cases kb_t p i <;> cases kb_t m i <;> simp
/-- the class's value is the law's -/
theorem kb_val (x m : Int32) : (x &&& 63) &&& (m ^^^ (-1)) = (x &&& 63) &&& ((m &&& 63) ^^^ (-1)) := by
  apply kb_ext
  intro i hi
  simp only [kb_and, kb_not m hi, kb_not (m &&& 63) hi]
  cases kb_t x i <;> cases kb_t m i <;> cases kb_t 63 i <;> rfl
/-- two registers alike: no known bit differs -/
theorem kb_same (v m : Int32) : ((v ^^^ v) &&& (m ^^^ (-1))) &&& (m ^^^ (-1)) = 0 := by
  apply kb_ext
  intro i hi
  rw [kb_and, kb_and, kb_xor, kb_0]
  cases kb_t v i <;> rfl
/-- the loop's step: the k-th bit taken out -/
theorem kb_out {p : Int32} {k i : Nat} (hk : k < 6) (hi : i < 32) : kb_t (p &&& (((1 : Int32) <<< (nI k &&& 31)) ^^^ (-1))) i = (kb_t p i && !decide (i = k)) := by
  rw [kb_and, kb_not _ hi, kb_one k hk i hi]
/-- the bits at k and above are gone -/
def kb_gone (p : Int32) (k : Nat) : Prop := ∀ i, k ≤ i → kb_t p i = false
theorem kb_gone_6 {m : Int32} (hm : kb_low m) : kb_gone m 6 := by
  intro i hi
  cases h : kb_t m i
  · rfl
  · exact absurd (hm i h) (by omega)
theorem kb_gone_s {p : Int32} {k : Nat} (hk : k < 6) (h : kb_gone p (k + 1)) : kb_gone (p &&& (((1 : Int32) <<< (nI k &&& 31)) ^^^ (-1))) k := by
  intro i hi
  rcases Nat.lt_or_ge i 32 with z | z
  · rw [kb_out hk z]
    by_cases e : i = k
    · rw [decide_eq_true e]; cases kb_t p i <;> rfl
    · rw [h i (by omega)]; rfl
  · exact kb_big z
theorem kb_gone_0 {p : Int32} (h : kb_gone p 0) : p = 0 := by
  apply kb_ext
  intro i _
  rw [h i (Nat.zero_le i), kb_0]
theorem kb_nlt {x y : Int32} (h : ¬ x < y) : y ≤ x := by
  rw [Int32.lt_iff_toInt_lt] at h
  rw [Int32.le_iff_toInt_le]
  omega
theorem kb_nle {x y : Int32} (h : x ≤ y) : ¬ y < x := by
  rw [Int32.le_iff_toInt_le] at h
  rw [Int32.lt_iff_toInt_lt]
  omega
theorem kb_lt {x y : Int32} (h : ¬ x ≤ y) : y < x := by
  rw [Int32.le_iff_toInt_le] at h
  rw [Int32.lt_iff_toInt_lt]
  omega
theorem kb_tr {x y z : Int32} (h : x ≤ y) (g : y ≤ z) : x ≤ z := by
  rw [Int32.le_iff_toInt_le] at h g
  rw [Int32.le_iff_toInt_le]
  omega
theorem kb_or0 (x : Int32) : x ||| 0 = x := by
  apply kb_ext
  intro i _
  rw [kb_or, kb_0, Bool.or_false]
end
section
/-! the class's methods -/
theorem kb_no {post : Int32 → Prop} {a : Int32} (h : a < 0 ∨ 5 < a) (hp : post 0) : wpX_isRegister post () a :=
  ⟨fun _ => hp, fun z => br_t (h.resolve_left z) hp⟩
theorem kb_yes {post : Int32 → Prop} {j : Nat} (h : j ≤ 5) (hp : post 1) : wpX_isRegister post () (nI j) :=
  br_f (nI_pos (by omega)) (br_f (nI_nlt (b := j) (a := 5) h (by decide)) hp)
/-- the loop of leastFrom: part stays a part of m, the number stays at or above from; if v itself is there, every bit goes -/
theorem kb_loop {post : Int32 → Prop} {v m fr : Int32} (hv : kb_low v) (hm : kb_low m)
    (H : ∀ p, kb_sub p m → fr ≤ v ||| p → (fr ≤ v → p = 0) → post (v ||| p)) :
    ∀ (k : Nat), k ≤ 6 → ∀ p, kb_sub p m → fr ≤ v ||| p → (fr ≤ v → kb_gone p k) → wX_leastFrom_15 post v fr (k + 1) p (nI k + (-1))
  | 0, _, p, h1, h2, h3 => br_t (by decide) (H p h1 h2 (fun z => kb_gone_0 (h3 z)))
  | k + 1, hk, p, h1, h2, h3 => by
    rw [pk_m1]
    refine br_f (nI_pos (by omega)) (nm_e ?_)
    have s1 := kb_sub_and (((1 : Int32) <<< (nI k &&& 31)) ^^^ (-1)) h1
    refine br_c (fun z => nm_e ?_) (fun z => nm_e ?_)
    · refine kb_loop hv hm H k (by omega) p h1 h2 (fun g => ?_)
      exact absurd z (kb_nle (kb_tr g (kb_le hv (kb_sub_low s1 hm))))
    · exact kb_loop hv hm H k (by omega) _ s1 (kb_nlt z) (fun g => kb_gone_s (by omega) (h3 g))
theorem kb_least {post : Int32 → Prop} {v m fr : Int32} (hv : kb_low v) (hm : kb_low m)
    (H : ∀ p, fr ≤ v ||| m → kb_sub p m → fr ≤ v ||| p → (fr ≤ v → p = 0) → post (v ||| p)) (H2 : ¬ fr ≤ v ||| m → post 64) :
    wpX_leastFrom post () v m fr :=
  br_c (fun z => ⟨7, kb_loop hv hm (fun p => H p z) 6 (by omega) m (kb_sub_r m) z (fun _ => kb_gone_6 hm)⟩) H2
/-! each method off the registers: -1 -/
section
variable {f g a : Int32} {a1 a2 : Nat → Int32}
theorem kb_set_n {post : Int32 → St2 → Prop} {b c : Int32} (h : a < 0 ∨ 5 < a) (hp : post (-1) (f, g, a1, a2)) : wpX_set post (f, g, a1, a2) a b c := by
  unfold wpX_set
  dsimp only
  exact kb_no h (br_t rfl hp)
theorem kb_val_n {post : Int32 → Prop} (h : a < 0 ∨ 5 < a) (hp : post (-1)) : wpX_value post (f, g, a1, a2) a := by
  unfold wpX_value
  dsimp only
  exact kb_no h (br_t rfl hp)
theorem kb_msk_n {post : Int32 → Prop} (h : a < 0 ∨ 5 < a) (hp : post (-1)) : wpX_mask post (f, g, a1, a2) a := by
  unfold wpX_mask
  dsimp only
  exact kb_no h (br_t rfl hp)
theorem kb_lst_n {post : Int32 → Prop} {b : Int32} (h : a < 0 ∨ 5 < a) (hp : post (-1)) : wpX_least post (f, g, a1, a2) a b := by
  unfold wpX_least
  dsimp only
  exact kb_no h (br_t rfl hp)
theorem kb_cmp_n {post : Int32 → Prop} {b c : Int32} (h : a < 0 ∨ 5 < a) (hp : post (-1)) : wpX_compare post (f, g, a1, a2) a b c := by
  unfold wpX_compare
  dsimp only
  exact kb_no h (br_t rfl hp)
end
/-! each method on a register -/
section
variable {f g : Int32} {a1 a2 : Nat → Int32} {j : Nat}
theorem kb_set_y {post : Int32 → St2 → Prop} {b c : Int32} (hj : j ≤ 5) (hp : post 0 (f, g, upd a1 j ((b &&& 63) &&& (c ^^^ (-1))), upd a2 j (c &&& 63))) : wpX_set post (f, g, a1, a2) (nI j) b c := by
  have hi : vp_in (nI j) 6 := vp_in_nI (by omega) (by decide)
  unfold wpX_set
  dsimp only
  rw [nI_clamp (show j < 2 ^ 31 by omega)]
  exact kb_yes hj (br_f (c := (1 : Int32) = 0) (by decide) ⟨hi, nm_e ⟨hi, nm_e hp⟩⟩)
theorem kb_val_y {post : Int32 → Prop} (hj : j ≤ 5) (hp : post (a1 j)) : wpX_value post (f, g, a1, a2) (nI j) := by
  have hi : vp_in (nI j) 6 := vp_in_nI (by omega) (by decide)
  unfold wpX_value
  dsimp only
  rw [nI_clamp (show j < 2 ^ 31 by omega)]
  exact kb_yes hj (br_f (c := (1 : Int32) = 0) (by decide) ⟨hi, hp⟩)
theorem kb_msk_y {post : Int32 → Prop} (hj : j ≤ 5) (hp : post (a2 j)) : wpX_mask post (f, g, a1, a2) (nI j) := by
  have hi : vp_in (nI j) 6 := vp_in_nI (by omega) (by decide)
  unfold wpX_mask
  dsimp only
  rw [nI_clamp (show j < 2 ^ 31 by omega)]
  exact kb_yes hj (br_f (c := (1 : Int32) = 0) (by decide) ⟨hi, hp⟩)
theorem kb_lst_y {post : Int32 → Prop} {b : Int32} (hj : j ≤ 5) (hp : wpX_leastFrom post () (a1 j) (a2 j) b) : wpX_least post (f, g, a1, a2) (nI j) b := by
  have hi : vp_in (nI j) 6 := vp_in_nI (by omega) (by decide)
  unfold wpX_least
  dsimp only
  rw [nI_clamp (show j < 2 ^ 31 by omega)]
  exact kb_yes hj (br_f (c := (1 : Int32) = 0) (by decide) ⟨hi, hi, hp⟩)
end
theorem kb_cmp {post : Int32 → Prop} {f g v m : Int32} {a1 a2 : Nat → Int32} {j : Nat} (hj : j ≤ 5) (e1 : a1 j = v) (e2 : a2 j = m)
    (H1 : m = 0 → post 1) (H2 : ¬ m = 0 → post 2) : wpX_compare post (f, g, a1, a2) (nI j) 0 (nI j) := by
  have hi : vp_in (nI j) 6 := vp_in_nI (by omega) (by decide)
  have hc : (nI j).toNatClampNeg = j := nI_clamp (by omega)
  unfold wpX_compare
  dsimp only
  refine kb_yes hj (br_f (c := (1 : Int32) = 0) (by decide) (kb_yes hj (br_f (c := (1 : Int32) = 0) (by decide) (br_f (by decide) (br_t (by decide) (br_t rfl ?_))))))
  unfold wX_compare_34 wpX_compareEqual
  dsimp only
  rw [hc, e1, e2]
  exact ⟨hi, hi, hi, hi, br_t (kb_same v m) ⟨hi, br_c (fun z => ⟨hi, br_t z (br_t rfl (H1 z))⟩) (fun z => br_t rfl (H2 z))⟩⟩
/-! the law -/
theorem kb_195 {mc ms kc ks : Nat} {f g v m : Int32} {a1 a2 : Nat → Int32} {j : Nat} (hj : j ≤ 5) (e1 : a1 j = v) (e2 : a2 j = m) :
    wL_lawOf_195 (fun r _ => r = 1) mc ms (nI j) 1 m kc ks f g a1 a2 :=
  kb_cmp hj e1 e2 (fun z => br_f (by decide) (br_t z (br_t rfl rfl))) (fun z => br_f (by decide) (br_f z (br_t rfl rfl)))
theorem kb_bad {mc ms kc ks : Nat} {a b c d f g : Int32} {a1 a2 : Nat → Int32} (h : a < 0 ∨ 5 < a) :
    wL_lawOf_23 (fun r _ => r = 1) mc ms a b c d 0 kc ks f g a1 a2 := by
  intro m _ v _
  refine kb_set_n h (br_t rfl (br_t rfl ?_))
  refine kb_val_n h (br_t rfl (br_t rfl ?_))
  refine kb_msk_n h (br_t rfl (br_t rfl ?_))
  refine kb_lst_n h (br_t rfl (br_t rfl ?_))
  exact kb_cmp_n h (br_t rfl (br_t rfl rfl))
theorem kb_102 {mc ms kc ks : Nat} {d f g x m : Int32} {a1 a2 : Nat → Int32} {j : Nat} (hj : j ≤ 5) (hx : kb_low x) (hm : kb_low m)
    (e1 : a1 j = x &&& (m ^^^ (-1))) (e2 : a2 j = m) :
    wL_lawOf_102 (fun r _ => r = 1) mc ms (nI j) d 1 m (x &&& (m ^^^ (-1))) m m kc ks f g a1 a2 := by
  have hv : kb_low (x &&& (m ^^^ (-1))) := kb_low_andL _ hx
  have h10 : ¬ (1 : Int32) = 0 := by decide
  have K := kb_195 (mc := mc) (ms := ms) (kc := kc) (ks := ks) (f := f) (g := g) hj e1 e2
  refine br_t rfl (kb_lst_y hj ?_)
  rw [e1, e2]
  refine kb_least hv hm (fun p h0 h1 h2 h3 => br_f h10 (br_c (fun z => br_t h0 ?_) (fun z => ?_))) (fun h0 => br_f h10 (br_t ?_ (br_f h0 (br_t rfl K))))
  · exact br_f (kb_nle h2) (br_f (kb_nle (kb_top hv h1 hm)) (br_t (kb_pat h1) K))
  · refine br_t ?_ K
    rw [h3 (kb_nlt z)]
    exact kb_or0 _
  · exact kb_lt (fun z => h0 (kb_tr z (kb_le hv hm)))
theorem kb_good {mc ms kc ks : Nat} {b c d f g : Int32} {a1 a2 : Nat → Int32} {j : Nat} (hj : j ≤ 5) :
    wL_lawOf_23 (fun r _ => r = 1) mc ms (nI j) b c d 1 kc ks f g a1 a2 := by
  have h10 : ¬ (1 : Int32) = 0 := by decide
  intro m em v ev
  subst em ev
  refine kb_set_y hj (br_f h10 ?_)
  have e1 : upd a1 j ((b &&& 63) &&& (c ^^^ (-1))) j = (b &&& 63) &&& ((c &&& 63) ^^^ (-1)) := by rw [pk_us, kb_val]
  have e2 : upd a2 j (c &&& 63) j = c &&& 63 := pk_us
  refine br_t rfl (kb_val_y hj (br_f h10 ?_))
  rw [e1]
  refine br_t rfl (kb_msk_y hj (br_f h10 ?_))
  rw [e2]
  exact kb_102 hj (kb_low_and b) (kb_low_and c) e1 e2
theorem kb_lawOf (a b c d : Int32) : wpL_lawOf (fun r _ => r = 1) 14 224 () a b c d := by
  refine ⟨by decide, by decide, 13, 220, by decide, by decide, by decide, by decide, by decide, by decide, ?_⟩
  refine br_c (fun z => kb_bad (Or.inl z)) (fun z => br_c (fun y => kb_bad (Or.inr y)) (fun y => ?_))
  obtain ⟨j, hj, rfl⟩ := nI_of2 (M := 5) (n := 5) (by decide) z (kb_nlt y)
  exact kb_good hj
theorem kb_cell {post : Int32 → Prop} {L : Nat} {xs : Nat → Int32} (hL : L ≤ 4) (k : Nat) (hk : k < 4) (h : ∀ x, post x) : wpL_cellAt post L xs () (nI k) :=
  pk_le L k (fun _ => h _) (fun z => ⟨vp_in_nI z (by omega), h _⟩)
theorem i_vc (xs : Nat → Int32) (L : Nat) (hL : L ≤ 4) : wpL_law (fun r => r = 1) L xs :=
  kb_cell hL 0 (by decide) (fun a => kb_cell hL 1 (by decide) (fun b => kb_cell hL 2 (by decide) (fun c => kb_cell hL 3 (by decide) (fun d => ⟨14, 224, by decide, by decide, kb_lawOf a b c d⟩))))
end
