/-! the reference tells designs: a name is told -/
def PTm (M c a i : Nat) : Prop := ((2010 ≤ a ∧ a ≤ 2014) ∧ i = 40 * M + c) ∨ ((a = 2009 ∨ (2015 ≤ a ∧ a ≤ 2018)) ∧ i = M)
/-- sums of a module in the reference -/
def RMx (S : Sto) (M : Nat) (m : Mdl) (rg ins : Int) : Prop := gI S 2015 M = sumW 0 m ∧ gI S 2016 M = sumW 1 m ∧ gI S 2017 M = min 1000 rg ∧ gI S 2018 M = min 1000 ins ∧ 0 ≤ rg ∧ 0 ≤ ins
section MTL
variable {S z y : Sto} {u : Nat → Int} {n N M c : Nat} {q : Qq} {j : Nat}
theorem cap1000 {v : Int} (hv : 0 ≤ v ∧ v ≤ 100000) : (if 1000 < w32 v then some (1000 : Int) else some v) = some (min 1000 v) := by
  have h := Int.min_def 1000 v
  rw [w32_id (by omega)]
  by_cases g : 1000 < v
  · rw [if_pos g]; congr 1; split at h <;> omega
  · rw [if_neg g]; congr 1; split at h <;> omega
/-- a name is told -/
theorem m_tell1 (hq : MsQ u n N S (.inl j)) (hM : M ≤ 15) (hc : c < 40) (h9 : gI S 2009 M = (c : Int)) {s w v tk : Int} (hs : 1 ≤ s ∧ s ≤ 5) (h26 : gI S 2000 26 = w) (hw : 0 ≤ w ∧ w ≤ 8) (h25 : gI S 2000 25 = tk) (hv : -2147483648 ≤ v ∧ v < 2147483648) (h5 : s = 5 → 0 ≤ v ∧ v < M ∧ 0 ≤ gI S 2017 v.toNat ∧ gI S 2017 v.toNat ≤ 1000 ∧ 0 ≤ gI S 2018 v.toNat ∧ gI S 2018 v.toNat ≤ 1000)
    (r15 : 0 ≤ gI S 2015 M ∧ gI S 2015 M ≤ 1000) (r16 : 0 ≤ gI S 2016 M ∧ gI S 2016 M ≤ 1000) (r17 : 0 ≤ gI S 2017 M ∧ gI S 2017 M ≤ 1000) (r18 : 0 ≤ gI S 2018 M ∧ gI S 2018 M ≤ 1000) :
    WP (mX23_tell S (M : Int) s v) (fun y => ChW (PTm M c) S y ∧ gI y 2009 M = (c : Int) + 1 ∧ (gI y 2010 (40 * M + c) = tk ∧ gI y 2011 (40 * M + c) = s ∧ gI y 2012 (40 * M + c) = w ∧ gI y 2013 (40 * M + c) = v ∧ gI y 2014 (40 * M + c) = 0) ∧
      gI y 2015 M = gI S 2015 M + (if s = 1 then w else 0) ∧ gI y 2016 M = gI S 2016 M + (if s = 2 then w else 0) ∧ gI y 2017 M = min 1000 (gI S 2017 M + (if s = 4 then w else if s = 5 then gI S 2017 v.toNat else 0)) ∧ gI y 2018 M = min 1000 (gI S 2018 M + (if s = 5 then 1 + gI S 2018 v.toNat else 0))) := by
  unfold mX23_tell
  rw [m_isRight hq, bX_some, bIf2, show okQ (.inl j) = true from rfl, if_pos rfl, rdI_e (by omega), Int.toNat_natCast, h9]
  have ei : ((40 : Int) * (M : Int) + (c : Int)) = ((40 * M + c : Nat) : Int) := by omega
  rw [ei, wrI_e (by omega), Int.toNat_natCast, wrI_e (by omega), Int.toNat_natCast, wrI_e (by omega), Int.toNat_natCast, wrI_e (by omega), Int.toNat_natCast, wrI_e (by omega), Int.toNat_natCast]
  generalize hA : sI (sI (sI (sI (sI S 2010 (40 * M + c) (gI S 2000 25)) 2011 (40 * M + c) s) 2012 (40 * M + c) (gI (sI (sI S 2010 (40 * M + c) (gI S 2000 25)) 2011 (40 * M + c) s) 2000 26)) 2013 (40 * M + c) v) 2014 (40 * M + c) 0 = A
  have cA : ChW (fun a i => (2010 ≤ a ∧ a ≤ 2014) ∧ i = 40 * M + c) S A := by
    rw [← hA]
    refine ((((ChW.refl.sI ?_).sI ?_).sI ?_).sI ?_).sI ?_ <;> omega
  have A10 : gI A 2010 (40 * M + c) = tk := by rw [← hA]; simp (disch := omega) only [gI_sIn, gI_sIe]; rw [w32_gI, h25]
  have A11 : gI A 2011 (40 * M + c) = s := by rw [← hA]; simp (disch := omega) only [gI_sIn, gI_sIe]; rw [w32_id (by omega)]
  have A12 : gI A 2012 (40 * M + c) = w := by rw [← hA]; simp (disch := omega) only [gI_sIn, gI_sIe]; rw [w32_gI, h26]
  have A13 : gI A 2013 (40 * M + c) = v := by rw [← hA]; simp (disch := omega) only [gI_sIn, gI_sIe]; rw [w32_id hv]
  have A14 : gI A 2014 (40 * M + c) = 0 := by rw [← hA]; simp (disch := omega) only [gI_sIn, gI_sIe]; rfl
  have eA : ∀ a i, ¬ (2010 ≤ a ∧ a ≤ 2014) → gI A a i = gI S a i := fun a i q => cA.1 _ _ (fun w => q w.1)
  rw [rdI_e (by omega), Int.toNat_natCast, eA _ _ (by omega), h9, wrI_e (by omega), Int.toNat_natCast]
  generalize hB : sI A 2009 M ((c : Int) + 1) = B
  have cB : ChW (PTm M c) S B := by rw [← hB]; exact (ChW.refl.tr cA (fun a i w => Or.inl w)).sI (Or.inr ⟨Or.inl rfl, rfl⟩)
  have B9 : gI B 2009 M = (c : Int) + 1 := by rw [← hB, gI_sI_eq, w32_id (by omega)]
  have eB : ∀ a i, a ≠ 2009 → gI B a i = gI A a i := fun a i q => by rw [← hB, hI_sI_a q]
  have eBS : ∀ a i, ¬ (2009 ≤ a ∧ a ≤ 2014) → gI B a i = gI S a i := fun a i q => (eB _ _ (by omega)).trans (eA _ _ (by omega))
  have i1 : 0 ≤ (if s = 1 then w else 0) ∧ (if s = 1 then w else 0) ≤ 8 := by split <;> omega
  have i2 : 0 ≤ (if s = 2 then w else 0) ∧ (if s = 2 then w else 0) ≤ 8 := by split <;> omega
  rw [rdI_e (by omega), Int.toNat_natCast, eBS 2015 M (by omega), eBS 2000 26 (by omega), h26, w32_id (x := s) (by omega), wrI_e (by omega), Int.toNat_natCast]
  generalize hC : sI B 2015 M (gI S 2015 M + (if s = 1 then w else 0)) = C
  have C15 : gI C 2015 M = gI S 2015 M + (if s = 1 then w else 0) := by rw [← hC, gI_sI_eq, w32_id (by omega)]
  have eC : ∀ a i, a ≠ 2015 → gI C a i = gI B a i := fun a i q => by rw [← hC, hI_sI_a q]
  have cC : ChW (PTm M c) S C := by rw [← hC]; exact cB.sI (Or.inr ⟨Or.inr (by omega), rfl⟩)
  rw [rdI_e (by omega), Int.toNat_natCast, eC 2016 M (by omega), eBS 2016 M (by omega), eC 2000 26 (by omega), eBS 2000 26 (by omega), h26, wrI_e (by omega), Int.toNat_natCast]
  generalize hD : sI C 2016 M (gI S 2016 M + (if s = 2 then w else 0)) = D
  have D16 : gI D 2016 M = gI S 2016 M + (if s = 2 then w else 0) := by rw [← hD, gI_sI_eq, w32_id (by omega)]
  have eD : ∀ a i, a ≠ 2016 → gI D a i = gI C a i := fun a i q => by rw [← hD, hI_sI_a q]
  have cD : ChW (PTm M c) S D := by rw [← hD]; exact cC.sI (Or.inr ⟨Or.inr (by omega), rfl⟩)
  have eDS : ∀ a i, ¬ (2009 ≤ a ∧ a ≤ 2016) → gI D a i = gI S a i := fun a i q => ((eD _ _ (by omega)).trans (eC _ _ (by omega))).trans (eBS _ _ (by omega))
  rw [rdI_e (by omega), Int.toNat_natCast, eDS 2017 M (by omega)]
  generalize hX : (if s = 4 then w else if s = 5 then gI S 2017 v.toNat else 0) = X
  have rX : 0 ≤ X ∧ X ≤ 1000 := by
    rw [← hX]
    by_cases g4 : s = 4
    · rw [if_pos g4]; omega
    · rw [if_neg g4]
      by_cases g5 : s = 5
      · rw [if_pos g5]; have := h5 g5; omega
      · rw [if_neg g5]; omega
  have eX : (if s = 4 then some (gI D 2000 26) else if s = 5 then rdI 16 D 2017 v fun v15 => some v15 else some 0) = some X := by
    rw [← hX]
    by_cases g4 : s = 4
    · rw [if_pos g4, if_pos g4, eDS 2000 26 (by omega), h26]
    · rw [if_neg g4, if_neg g4]
      by_cases g5 : s = 5
      · have := h5 g5
        rw [if_pos g5, if_pos g5, rdI_e (by omega), eDS _ _ (by omega)]
      · rw [if_neg g5, if_neg g5]
  rw [eX, bX_some, wrI_e (by omega), Int.toNat_natCast]
  generalize hE : sI D 2017 M (gI S 2017 M + X) = E
  have E17 : gI E 2017 M = gI S 2017 M + X := by rw [← hE, gI_sI_eq, w32_id (by omega)]
  have eE : ∀ a i, a ≠ 2017 → gI E a i = gI D a i := fun a i q => by rw [← hE, hI_sI_a q]
  have cE : ChW (PTm M c) S E := by rw [← hE]; exact cD.sI (Or.inr ⟨Or.inr (by omega), rfl⟩)
  rw [rdI_e (by omega), Int.toNat_natCast, eE 2018 M (by omega), eDS 2018 M (by omega)]
  generalize hY : (if s = 5 then 1 + gI S 2018 v.toNat else 0) = Y
  have rY : 0 ≤ Y ∧ Y ≤ 1001 := by
    rw [← hY]
    by_cases g5 : s = 5
    · rw [if_pos g5]; have := h5 g5; omega
    · rw [if_neg g5]; omega
  have eY : (if s = 5 then rdI 16 E 2018 v fun v19 => some (1 + v19) else some 0) = some Y := by
    rw [← hY]
    by_cases g5 : s = 5
    · have := h5 g5
      rw [if_pos g5, if_pos g5, rdI_e (by omega), eE _ _ (by omega), eDS _ _ (by omega)]
    · rw [if_neg g5, if_neg g5]
  rw [eY, bX_some, wrI_e (by omega), Int.toNat_natCast]
  generalize hF : sI E 2018 M (gI S 2018 M + Y) = F
  have F18 : gI F 2018 M = gI S 2018 M + Y := by rw [← hF, gI_sI_eq, w32_id (by omega)]
  have eF : ∀ a i, a ≠ 2018 → gI F a i = gI E a i := fun a i q => by rw [← hF, hI_sI_a q]
  have cF : ChW (PTm M c) S F := by rw [← hF]; exact cE.sI (Or.inr ⟨Or.inr (by omega), rfl⟩)
  rw [rdI_e (by omega), Int.toNat_natCast, F18, rdI_e (by omega), Int.toNat_natCast, F18, cap1000 (by omega), bX_some, wrI_e (by omega), Int.toNat_natCast]
  have m18 := Int.min_def 1000 (gI S 2018 M + Y)
  have m17 := Int.min_def 1000 (gI S 2017 M + X)
  generalize hG : sI F 2018 M (min 1000 (gI S 2018 M + Y)) = G
  have G18 : gI G 2018 M = min 1000 (gI S 2018 M + Y) := by rw [← hG, gI_sI_eq, w32_id (by split at m18 <;> omega)]
  have eG : ∀ a i, a ≠ 2018 → gI G a i = gI F a i := fun a i q => by rw [← hG, hI_sI_a q]
  have cG : ChW (PTm M c) S G := by rw [← hG]; exact cF.sI (Or.inr ⟨Or.inr (by omega), rfl⟩)
  have G17 : gI G 2017 M = gI S 2017 M + X := by rw [eG _ _ (by omega), eF _ _ (by omega)]; exact E17
  rw [rdI_e (by omega), Int.toNat_natCast, G17, rdI_e (by omega), Int.toNat_natCast, G17, cap1000 (by omega), bX_some, wrI_e (by omega), Int.toNat_natCast]
  generalize hH : sI G 2017 M (min 1000 (gI S 2017 M + X)) = H
  have eH : ∀ a i, a ≠ 2017 → gI H a i = gI G a i := fun a i q => by rw [← hH, hI_sI_a q]
  have eHA : ∀ a i, 2010 ≤ a → a ≤ 2014 → gI H a i = gI A a i := fun a i q1 q2 => by
    rw [eH _ _ (by omega), eG _ _ (by omega), eF _ _ (by omega), eE _ _ (by omega), eD _ _ (by omega), eC _ _ (by omega), eB _ _ (by omega)]
  refine WP_some.2 ⟨by rw [← hH]; exact cG.sI (Or.inr ⟨Or.inr (by omega), rfl⟩), ?_, ⟨?_, ?_, ?_, ?_, ?_⟩, ?_, ?_, ?_, ?_⟩
  · rw [eH _ _ (by omega), eG _ _ (by omega), eF _ _ (by omega), eE _ _ (by omega), eD _ _ (by omega), eC _ _ (by omega)]; exact B9
  · rw [eHA _ _ (by omega) (by omega)]; exact A10
  · rw [eHA _ _ (by omega) (by omega)]; exact A11
  · rw [eHA _ _ (by omega) (by omega)]; exact A12
  · rw [eHA _ _ (by omega) (by omega)]; exact A13
  · rw [eHA _ _ (by omega) (by omega)]; exact A14
  · rw [eH _ _ (by omega), eG _ _ (by omega), eF _ _ (by omega), eE _ _ (by omega), eD _ _ (by omega)]; exact C15
  · rw [eH _ _ (by omega), eG _ _ (by omega), eF _ _ (by omega), eE _ _ (by omega)]; exact D16
  · rw [← hH, gI_sI_eq, w32_id (by split at m17 <;> omega)]
  · rw [eH _ _ (by omega)]; exact G18
theorem m_tellF {f : Int × Int} {a b d : Int} (hq : MsQ u n N S (.inr f)) : mX23_tell S a b d = some S := by
  unfold mX23_tell
  rw [m_isRight hq, bX_some, bIf2, okQ_f, if_neg (by decide)]
end MTL
