section
/-! plain rows: the law's value (mask cut to six bits first) is the class's value (mask not cut) -/
theorem kb_bits (a b s c : Int32) : (a &&& s) &&& (b ^^^ c) = (a &&& s) &&& ((b &&& s) ^^^ c) := by
  apply Int32.toBitVec_inj.mp
  apply BitVec.eq_of_getLsbD_eq
  intro i hi
  simp only [Int32.toBitVec_and, Int32.toBitVec_xor, BitVec.getLsbD_and, BitVec.getLsbD_xor]
  generalize a.toBitVec.getLsbD i = p
  generalize b.toBitVec.getLsbD i = q
  generalize s.toBitVec.getLsbD i = r
  generalize c.toBitVec.getLsbD i = t
  revert p q r t
  decide
/-- the shift, as class and law both compute it -/
def kb_sh (x p : Int32) : Int32 := if p < 0 then x >>> ((-p) &&& 31) else (x <<< (p &&& 31)) &&& 63
theorem kb_neg {x p : Int32} (h : p < 0) : kb_sh x p = x >>> ((-p) &&& 31) := if_pos h
theorem kb_pos {x p : Int32} (h : ¬ p < 0) : kb_sh x p = (x <<< (p &&& 31)) &&& 63 := if_neg h
theorem kb_in {p : Int32} (a : ¬ p < 0) (b : ¬ 5 < p) : vp_in p 6 := by
  rw [Int32.lt_iff_toInt_lt] at a b
  have e0 : (0 : Int32).toInt = 0 := by decide
  have e5 : (5 : Int32).toInt = 5 := by decide
  exact vp_in_iff.mpr ⟨by omega, by omega⟩
theorem kb_le {p : Int32} (a : ¬ 6 < p) : p ≤ 6 := by
  rw [Int32.lt_iff_toInt_lt] at a
  rw [Int32.le_iff_toInt_le]
  omega
theorem kb_nle {p : Int32} (a : 6 < p) : ¬ p ≤ 6 := by
  rw [Int32.lt_iff_toInt_lt] at a
  rw [Int32.le_iff_toInt_le]
  omega
/-! the class's methods -/
theorem kb_yes {post : Int32 → Prop} {p : Int32} (a : ¬ p < 0) (b : ¬ 5 < p) (h : post 1) : wpX_isRegister post () p := br_f a (br_f b h)
theorem kb_no {post : Int32 → Prop} {p : Int32} (a : p < 0 ∨ 5 < p) (h : post 0) : wpX_isRegister post () p :=
  ⟨fun _ => h, fun c => br_t (a.resolve_left c) h⟩
theorem kb_value {post : Int32 → Prop} {f g p : Int32} {a1 a2 : Nat → Int32} (a : ¬ p < 0) (b : ¬ 5 < p) (h : post (a1 p.toNatClampNeg)) : wpX_value post (f, g, a1, a2) p := by
  unfold wpX_value
  dsimp only
  exact kb_yes a b (br_f (by decide) ⟨kb_in a b, h⟩)
theorem kb_mask {post : Int32 → Prop} {f g p : Int32} {a1 a2 : Nat → Int32} (a : ¬ p < 0) (b : ¬ 5 < p) (h : post (a2 p.toNatClampNeg)) : wpX_mask post (f, g, a1, a2) p := by
  unfold wpX_mask
  dsimp only
  exact kb_yes a b (br_f (by decide) ⟨kb_in a b, h⟩)
theorem kb_keep {post : Int32 → St2 → Prop} {x1 z0 w g : Int32} {a1 a2 : Nat → Int32} (hi : vp_in x1 6) (h : post 0 (w, z0, upd a1 x1.toNatClampNeg w, upd a2 x1.toNatClampNeg z0)) : wX_shift_87 post x1 z0 w g a1 a2 :=
  ⟨hi, nm_e ⟨hi, nm_e h⟩⟩
theorem kb_56 {post : Int32 → St2 → Prop} {x1 x2 x3 w v g : Int32} {a1 a2 : Nat → Int32} (hi : vp_in x1 6) (hj : vp_in x2 6) (h : post 0 (w, kb_sh (a2 x2.toNatClampNeg) x3, upd a1 x1.toNatClampNeg w, upd a2 x1.toNatClampNeg (kb_sh (a2 x2.toNatClampNeg) x3))) : wX_shift_56 post x1 x2 x3 w v g a1 a2 := by
  refine ⟨fun c => ⟨hj, ?_⟩, fun c => ⟨hj, ?_⟩⟩
  · rw [kb_neg c] at h
    exact kb_keep hi h
  · rw [kb_pos c] at h
    exact kb_keep hi h
theorem kb_shift {post : Int32 → St2 → Prop} {f g p0 p1 p2 : Int32} {a1 a2 : Nat → Int32} (a : ¬ p0 < 0) (b : ¬ 5 < p0) (c : ¬ p1 < 0) (d : ¬ 5 < p1) (e : ¬ p2 < -6) (k : ¬ 6 < p2)
    (h : post 0 (kb_sh (a1 p1.toNatClampNeg) p2, kb_sh (a2 p1.toNatClampNeg) p2, upd a1 p0.toNatClampNeg (kb_sh (a1 p1.toNatClampNeg) p2), upd a2 p0.toNatClampNeg (kb_sh (a2 p1.toNatClampNeg) p2))) : wpX_shift post (f, g, a1, a2) p0 p1 p2 := by
  unfold wpX_shift
  dsimp only
  refine kb_yes a b (br_f (by decide) (kb_yes c d (br_f (by decide) (br_f e (br_t (kb_le k) ⟨fun l => ⟨kb_in c d, ?_⟩, fun l => ⟨kb_in c d, ?_⟩⟩)))))
  · rw [← kb_neg l]
    exact kb_56 (kb_in a b) (kb_in c d) h
  · rw [← kb_pos l]
    exact kb_56 (kb_in a b) (kb_in c d) h
theorem kb_refuse {post : Int32 → St2 → Prop} {f g p0 p2 : Int32} {a1 a2 : Nat → Int32} (bad : p2 < -6 ∨ 6 < p2 ∨ p0 < 0 ∨ 5 < p0) (h : post (-1) (f, g, a1, a2)) : wpX_shift post (f, g, a1, a2) p0 1 p2 := by
  unfold wpX_shift
  dsimp only
  by_cases a : p0 < 0 ∨ 5 < p0
  · exact kb_no a (br_t rfl h)
  · have a1 : ¬ p0 < 0 := fun z => a (.inl z)
    have a2 : ¬ 5 < p0 := fun z => a (.inr z)
    refine kb_yes a1 a2 (br_f (by decide) (kb_yes (by decide) (by decide) (br_f (by decide) ⟨fun _ => h, fun e => br_f (kb_nle ?_) h⟩)))
    rcases bad with z | z | z | z
    · exact absurd z e
    · exact z
    · exact absurd z a1
    · exact absurd z a2
end
section
/-! the law's joins -/
theorem kb_ok {mc ms kc ks : Nat} {x2 x3 x5 x6 f g : Int32} {a1 a2 : Nat → Int32} (e : ¬ x2 < -6) (k : ¬ 6 < x2) (a : ¬ x3 < 0) (b : ¬ 5 < x3) (h1 : a1 1 = x6) (h2 : a2 1 = x5) : wL_lawOf_61 (fun r _ => r = 1) mc ms x2 x3 x5 x6 1 kc ks f g a1 a2 := by
  subst h1
  subst h2
  have T : wL_lawOf_159 (fun r _ => r = 1) mc ms x3 (a1 1) (kb_sh (a1 1) x2) (kb_sh (a2 1) x2) kc ks (kb_sh (a1 1) x2) (kb_sh (a2 1) x2) (upd a1 x3.toNatClampNeg (kb_sh (a1 1) x2)) (upd a2 x3.toNatClampNeg (kb_sh (a2 1) x2)) := by
    unfold wL_lawOf_159
    refine kb_value a b (br_t pk_us (kb_mask a b (br_t pk_us ⟨fun _ => rfl, fun n => kb_value (by decide) (by decide) (br_t (pk_un ?_) rfl)⟩)))
    obtain ⟨j, hj, rfl⟩ := vp_in_of (kb_in a b) (by decide)
    rw [nI_clamp (by omega)]
    show (1 : Nat) ≠ j
    intro q
    subst q
    exact n rfl
  have S : wL_lawOf_138 (fun r _ => r = 1) mc ms x2 x3 (a2 1) (a1 1) (kb_sh (a1 1) x2) kc ks (kb_sh (a1 1) x2) (kb_sh (a2 1) x2) (upd a1 x3.toNatClampNeg (kb_sh (a1 1) x2)) (upd a2 x3.toNatClampNeg (kb_sh (a2 1) x2)) := by
    refine ⟨fun l => ?_, fun l => ?_⟩
    · rw [← kb_neg l]
      exact T
    · rw [← kb_pos l]
      exact T
  unfold wL_lawOf_61
  refine kb_shift a b (by decide) (by decide) e k (br_f (by decide) (br_t rfl (br_f (by decide) ⟨fun l => ?_, fun l => ?_⟩)))
  · rw [← kb_neg l]
    exact S
  · rw [← kb_pos l]
    exact S
theorem kb_bad {mc ms kc ks : Nat} {x2 x3 x5 x6 f g : Int32} {a1 a2 : Nat → Int32} (bad : x2 < -6 ∨ 6 < x2 ∨ x3 < 0 ∨ 5 < x3) (h1 : a1 1 = x6) (h2 : a2 1 = x5) : wL_lawOf_60 (fun r _ => r = 1) mc ms x2 x3 x5 x6 kc ks f g a1 a2 := by
  unfold wL_lawOf_60 wL_lawOf_61
  exact kb_refuse bad (br_t rfl (br_t rfl (br_t rfl (kb_value (by decide) (by decide) (br_t h1 (kb_mask (by decide) (by decide) (br_t h2 rfl)))))))
theorem kb_law (p0 p1 p2 p3 : Int32) : wpL_lawOf (fun r _ => r = 1) 14 224 () p0 p1 p2 p3 := by
  refine ⟨by decide, by decide, 2, 12, by decide, by decide, ⟨by decide, by decide, by decide, by decide, ?_⟩⟩
  dsimp only
  unfold wpX_set
  dsimp only
  refine kb_yes (by decide) (by decide) (br_f (by decide) ⟨kb_in (by decide) (by decide), nm_e ⟨kb_in (by decide) (by decide), nm_e (nm_e (nm_e ?_))⟩⟩)
  have h1 : upd (fun _ => 0) (1 : Int32).toNatClampNeg ((p0 &&& 63) &&& (p1 ^^^ (-1))) 1 = (p0 &&& 63) &&& ((p1 &&& 63) ^^^ (-1)) := (pk_us (k := 1)).trans (kb_bits p0 p1 63 (-1))
  have h2 : upd (fun _ => 0) (1 : Int32).toNatClampNeg (p1 &&& 63) 1 = p1 &&& 63 := pk_us (k := 1)
  exact ⟨fun a => kb_bad (.inl a) h1 h2, fun a => ⟨fun b => kb_bad (.inr (.inl b)) h1 h2, fun b => ⟨fun c => kb_bad (.inr (.inr (.inl c))) h1 h2, fun c => ⟨fun d => kb_bad (.inr (.inr (.inr d))) h1 h2, fun d => kb_ok a b c d h1 h2⟩⟩⟩⟩
theorem kb_cell {post : Int32 → Prop} {L : Nat} {xs : Nat → Int32} (hL : L ≤ 4) (k : Nat) (hk : k < 4) (h : ∀ r, post r) : wpL_cellAt post L xs () (nI k) :=
  pk_le L k (fun _ => h _) (fun l => ⟨pk_in k L l, h _⟩)
theorem i_vc (xs : Nat → Int32) (L : Nat) (hL : L ≤ 4) : wpL_law (fun r => r = 1) L xs :=
  kb_cell hL 0 (by decide) (fun r1 => kb_cell hL 1 (by decide) (fun r2 => kb_cell hL 2 (by decide) (fun r3 => kb_cell hL 3 (by decide) (fun r4 => ⟨14, 224, by decide, by decide, kb_law r1 r2 r3 r4⟩))))
end
