/-! the reference makes designs: items that are no instances -/
def FrIn (S : Sto) (sl : Nat) (m : Mdl) (F : Frm) : Prop := ∀ a, a < m.length → (m.getD a nm0).2.1 = 0 → ∀ i : Nat, (i : Int) < (m.getD a nm0).2.2.1 → gI S 2027 (320 * sl + 8 * a + i) = F.1 a i
/-- between items of module M in slot sl, at a token -/
def SlO (u : Nat → Int) (n N : Nat) (fs : List Fin0) (fa nin M sl : Nat) (cur : Mdl) (tok : Nat) (s : GSt × Frm) (S : Sto) : Prop := (CmG u n N fs S ∧ gI S 2015 (fs.length - 1) = (nin : Int)) ∧ (gI S 2000 28 = (M : Int) ∧ gI S 2000 29 = (sl : Int)) ∧ MsQ u n N S (.inl tok) ∧ GrM S fa s.1 ∧ FrM S sl (msT fs M) cur s.1.2.1 s.2 ∧ FrIn S sl (fAt fs M).2.2.1 s.2 ∧ gI S 2032 sl = (cur.length : Int)
section MK2
variable {S z y : Sto} {u : Nat → Int} {n N M sl fa nin c ub : Nat} {fs : List Fin0} {cur m : Mdl} {j d tok : Nat} {k k' K rest : List Row3} {w v : Int} {g : GSt} {s : GSt × Frm} {F : Frm} {q : Qq} {mt gv : List Nat} {sub : Nat → List VlS → GSt → GSt × Frm}
theorem GrM.ch (h : GrM S fa g) {P : Nat → Nat → Prop} (gg : ChW P S z) (e : ∀ a i, P a i → ¬ (2023 ≤ a ∧ a ≤ 2026) ∧ a ≠ 2034 ∧ ¬ (a = 2000 ∧ (i = 37 ∨ i = 38 ∨ i = 52 ∨ i = 53))) : GrM z fa g := by
  obtain ⟨h1, h2, h3, h4⟩ := h
  exact ⟨h1.ch gg (fun a i q => by have := e a i q; omega), (gg.1 _ _ (fun q => by have := e _ _ q; omega)).trans h2, fun b hb => (gg.1 _ _ (fun q => by have := e _ _ q; omega)).trans (h3 b hb), (gg.1 _ _ (fun q => by have := e _ _ q; omega)).trans h4⟩
theorem FrM.ch {ms : List Mdl} (h : FrM S sl ms cur ub F) {P : Nat → Nat → Prop} (gg : ChW P S z) (e : ∀ a i, P a i → a ≠ 2027 ∧ a ≠ 2028 ∧ a ≠ 2033) : FrM z sl ms cur ub F := ⟨fun a h1 h2 i hi => (gg.1 _ _ (fun q => by have := e _ _ q; omega)).trans (h.1 a h1 h2 i hi), fun a h1 h2 o h3 h4 i hi => (gg.1 _ _ (fun q => by have := e _ _ q; omega)).trans (h.2.1 a h1 h2 o h3 h4 i hi), fun a h1 h2 => ⟨(gg.1 _ _ (fun q => by have := e _ _ q; omega)).trans (h.2.2 a h1 h2).1, (h.2.2 a h1 h2).2⟩⟩
theorem FrIn.ch (h : FrIn S sl m F) {P : Nat → Nat → Prop} (gg : ChW P S z) (e : ∀ a i, P a i → a ≠ 2027) : FrIn z sl m F := fun a h1 h2 i hi => (gg.1 _ _ (fun q => by have := e _ _ q; omega)).trans (h a h1 h2 i hi)
theorem mkI_eq : mX23_makeItem S = rdI 65537 S 2002 (gI S 2000 9) fun v1 => if w32 v1 = 1 then bX (mX23_makeNext S) fun x2 => some x2 else rdI 16 S 2032 (gI S 2000 29) fun v3 => rdI 16 S 2032 (gI S 2000 29) fun v4 => wrI 16 S 2032 (gI S 2000 29) (v4 + 1) fun S5 => bX (mX23_isWord S5 2) fun x6 => bX (if ¬ w32 x6 = 0 then bX (mX23_behindSign S5 59) fun x7 => some x7 else bX (mX23_isWord S5 5) fun x8 => if ¬ w32 x8 = 0 then bX (mX23_makeRegister S5 v3) fun x9 => some x9 else bX (mX23_isWord S5 6) fun x10 => if ¬ w32 x10 = 0 then bX (mX23_makeInstance S5 v3) fun x11 => some x11 else bX (mX23_behindSign S5 61) fun x12 => bX (mX23_expression x12) fun x13 => bX (mX23_keepValue x13 v3) fun x14 => bX (mX23_sign x14 59) fun x15 => some x15) fun y16 => some y16 := rfl
/-- no name more than a row of bits holds -/
theorem wd8 (h : MdOk M m) {a : Nat} (ha : a < m.length) (hs : (m.getD a nm0).2.1 ≠ 4) : 1 ≤ (m.getD a nm0).2.2.1 ∧ (m.getD a nm0).2.2.1 ≤ 8 := (h.2 a ha).2.1 hs
/-- one name more in the frame: a plain one -/
theorem FrM.add {ms : List Mdl} {x : Nam} {F' : Frm} {ub' : Nat} (ho : MdOk M cur) (hf : FrM S sl ms cur ub F) (hub : ub ≤ ub') (hx : x.2.1 ≠ 4) (e27 : ∀ a i, a < cur.length → i < 8 → gI z 2027 (320 * sl + 8 * a + i) = gI S 2027 (320 * sl + 8 * a + i)) (e28 : ∀ i, gI z 2028 i = gI S 2028 i) (e33 : ∀ a, a < cur.length → gI z 2033 (40 * sl + a) = gI S 2033 (40 * sl + a))
    (f1 : ∀ a, a < cur.length → F'.1 a = F.1 a) (f2 : ∀ a, a < cur.length → F'.2.1 a = F.2.1 a) (f3 : ∀ a, a < cur.length → F'.2.2 a = F.2.2 a)
    (n1 : ∀ i : Nat, (i : Int) < x.2.2.1 → gI z 2027 (320 * sl + 8 * cur.length + i) = F'.1 cur.length i) (n3 : x.2.1 = 3 → gI z 2033 (40 * sl + cur.length) = (F'.2.2 cur.length : Int) ∧ F'.2.2 cur.length + x.2.2.1.toNat ≤ ub') : FrM z sl ms (cur ++ [x]) ub' F' := by
  have hl : (cur ++ [x]).length = cur.length + 1 := by rw [List.length_append]; rfl
  refine ⟨fun a ha hs i hi => ?_, fun a ha hs o h1 h2 i hi => ?_, fun a ha hs => ?_⟩
  · rw [hl] at ha
    rw [getD_appN] at hs hi
    by_cases e : a < cur.length
    · rw [if_pos e] at hs hi
      have := wd8 ho e hs
      rw [e27 a i e (by omega), f1 a e]
      exact hf.1 a e hs i hi
    · have e2 : a = cur.length := by omega
      subst e2
      rw [if_neg e, if_pos rfl] at hi
      exact n1 i hi
  · rw [hl] at ha
    have esb : a < cur.length → sbM ms (cur ++ [x]) a = sbM ms cur a := fun e => by unfold sbM; rw [getD_appN, if_pos e]
    rw [getD_appN] at hs
    by_cases e : a < cur.length
    · rw [if_pos e] at hs
      rw [esb e] at h1 h2 hi
      rw [e28, f2 a e]
      exact hf.2.1 a e hs o h1 h2 i hi
    · rw [if_neg e, if_pos (by omega)] at hs
      exact absurd hs hx
  · rw [hl] at ha
    rw [getD_appN] at hs ⊢
    by_cases e : a < cur.length
    · rw [if_pos e] at hs ⊢
      obtain ⟨g1, g2⟩ := hf.2.2 a e hs
      rw [e33 a e, f3 a e]
      exact ⟨g1, by omega⟩
    · have e2 : a = cur.length := by omega
      subst e2
      rw [if_neg e, if_pos rfl] at hs ⊢
      exact n3 hs
/-- an input: nothing is made -/
theorem m_mkIn (hS : SlO u n N fs fa nin M sl cur j s S) (hM : M < fs.length) (hsl : sl ≤ 15) (hp : PrefM (cur ++ [(j + 1, 0, w, 0)]) (fAt fs M).2.2.1) (hw : isW u n 2 j = true) {e : Nat} (hI : inD u n cur j = .inl (e, w)) :
    WP (mX23_makeItem S) (fun y => ChW (PLw sl) S y ∧ SlO u n N fs fa nin M sl (cur ++ [(j + 1, 0, w, 0)]) e s y) := by
  obtain ⟨⟨hG, hnin⟩, ⟨h28, h29⟩, hq, hg, hF, hFi, h32⟩ := hS
  have hj : j ≤ N := hq.2.2.1
  have hL := hG.t.l
  have hlt : j < N := lt6 hL (isW_K hw) hj
  have h9 : gI S 2000 9 = (j : Int) := hq.2.1
  obtain ⟨a, a1, a2, a3, a4⟩ := inD_ok hL hI hlt
  dsimp only at a2 a3 a4
  obtain ⟨n1, n2, n3, n4, n5, n6, n7, n8, n9, n10⟩ := hdD_ok hL a1 hlt
  obtain ⟨t1, t2, t3⟩ := tkT_ok a2
  have hlt2 : a.1 < N := lt3 hL t3 n7
  have hml := (hG.2.1 M hM).2.1.1.1
  have hdp := hp.d
  have hcl : cur.length < 40 := by have := hdp.1; rw [List.length_append] at this; have : cur.length + 1 ≤ _ := this; omega
  have k6 : tkK u n j = 6 := isW_K hw
  rw [mkI_eq, h9, hG.t.k hj, tkK_id, if_neg (by omega), h29, rdI_e (by omega), Int.toNat_natCast, rdI_e (by omega), Int.toNat_natCast, h32, wrI_e (by omega), Int.toNat_natCast]
  generalize hA : sI S 2032 sl ((cur.length : Int) + 1) = A
  have cA : ChW (fun a i => a = 2032 ∧ i = sl) S A := by rw [← hA]; exact ChW.refl.sI ⟨rfl, rfl⟩
  have tA := hG.t.ch cA (fun a i l1 l2 w => by omega)
  have A9 : gI A 2000 9 = (j : Int) := (cA.1 _ _ (by omega)).trans h9
  rw [m_isWord tA hj A9 (by omega), bX_some, bIf, if_pos (show decide (tkK u n j = 6 ∧ tkV u n j = 2) = true from hw)]
  have h59 : isS u n 59 a.1 = true := by
    unfold tkT bq at a2; dsimp only at a2; split at a2
    · assumption
    · cases a2
  refine WP_bX.2 (WP_bX.2 ((m_behind tA A9 (s := 59) (by omega) (e := a.1) (by omega) n7 (head_no (by decide) (by omega) n3 n10) h59).mono (fun y hy => WP_some.2 (WP_some.2 ?_))))
  obtain ⟨y1, y2⟩ := hy
  have cS : ChW (fun a i => (a = 2032 ∧ i = sl) ∨ (a = 2000 ∧ i = 9)) S y := (ChW.refl.tr cA (fun a i q => Or.inl q)).tr y1 (fun a i q => Or.inr q)
  have hl : (cur ++ [(j + 1, (0 : Int), w, (0 : Int))]).length = cur.length + 1 := by rw [List.length_append]; rfl
  refine ⟨ChW.refl.tr cS (fun a i q => by unfold PLw; omega), ⟨hG.ch cS (fun a i q => by omega), (cS.1 _ _ (by omega)).trans hnin⟩, ⟨(cS.1 _ _ (by omega)).trans h28, (cS.1 _ _ (by omega)).trans h29⟩, ⟨(cS.1 _ _ (by omega)).trans hq.1, by rw [y2, t1], by omega, t2⟩, hg.ch cS (fun a i q => by omega), ?_, hFi.ch cS (fun a i q => by omega), ?_⟩
  · have ho := (hG.2.1 M hM).2.1.1.pre hp
    have ho' : MdOk M cur := (hG.2.1 M hM).2.1.1.pre (by obtain ⟨more, e⟩ := hp; exact ⟨_, by rw [e, List.append_assoc]⟩)
    refine FrM.add ho' hF (Nat.le_refl _) (by show (0 : Int) ≠ 4; decide) (fun a i _ _ => cS.1 _ _ (by omega)) (fun i => cS.1 _ _ (by omega)) (fun a _ => cS.1 _ _ (by omega)) (fun _ _ => rfl) (fun _ _ => rfl) (fun _ _ => rfl) (fun i hi => ?_) (fun e => by have e : (0 : Int) = 3 := e; omega)
    have hlen := hdp.1
    rw [hl] at hlen
    have em : (fAt fs M).2.2.1.getD cur.length nm0 = (j + 1, 0, w, 0) := by
      rw [hdp.2 _ (by rw [hl]; omega), getD_appN, if_neg (by omega), if_pos rfl]
    rw [cS.1 _ _ (by omega)]
    exact hFi _ (by omega) (by rw [em]) i (by rw [em]; exact hi)
  · rw [y1.1 _ _ (by omega), ← hA, gI_sI_eq, w32_id (by omega), hl]; omega
end MK2
