/-! the class's set of tests: which show a fault, who is suspect -/
section KSUS
variable {S : Sto} {k : Nat} {C : Chp}
/-- rows of what shows, and n patterns, as the class has them -/
def KRow (S : Sto) (k : Nat) (C : Chp) : Prop := gR S 264 0 = 344 + 22 * k ∧ ∀ f, f < kFa C → ∀ p, p < 2 ^ kB C → tb (gL S (344 + 22 * k + 21) (64 * f + p / 64)) (p % 64) = kShow C f p
def KSet (S : Sto) (k : Nat) (C : Chp) (set : Nat → Int) (n : Nat) : Prop := gI S (344 + 22 * k) 25 = (n : Int) ∧ n ≤ 1224 ∧ ∀ i, i < n → gI S (344 + 22 * k + 18) i = set i ∧ 0 ≤ set i ∧ set i < ((2 ^ kB C : Nat) : Int)
theorem k_rowShows (hk : k < 4) (w : WFC C) (h : KRow S k C) {f p : Nat} (hf : f < kFa C) (hp : p < 2 ^ kB C) : mX19_rowShows S (f : Int) (p : Int) = some (b2i (kShow C f p)) := by
  have hn := w.nums
  have fa := kFa_le w
  have p12 : 2 ^ kB C ≤ 4096 := Nat.pow_le_pow_right (n := 2) (by omega) hn.2.1
  have s6 : aShr (p : Int) 6 = ((p / 64 : Nat) : Int) := by rw [aShr_6, w32_id (by omega)]; omega
  have s63 : aAnd (p : Int) 63 = ((p % 64 : Nat) : Int) := by rw [aAnd_63]; omega
  have zt : (64 * (f : Int) + ((p / 64 : Nat) : Int)).toNat = 64 * f + p / 64 := by omega
  have q := shr_is1 (x := gL S (344 + 22 * k + 21) (64 * f + p / 64)) (k := p % 64) (by omega)
  rw [h.2 f hf p hp] at q
  unfold mX19_rowShows
  rw [h.1, gk_chip hk, s6, s63, rdL_e (by omega), zt]
  cases e : kShow C f p with
  | true => rw [e] at q; rw [if_pos (by rw [q])]; rfl
  | false => rw [e] at q; rw [if_neg (by rw [q]; decide)]; rfl
theorem k_isSuspect (hk : k < 4) (w : WFC C) {set : Nat → Int} {fl : Nat → Bool} {n f : Nat} (h : KRow S k C) (g : KSet S k C set n) (hf : f < kFa C) (hF : ∀ i, i < n → gI S (344 + 22 * k + 19) i = b2i (fl i)) :
    mX19_isSuspect S (f : Int) = some (b2i (anyS C set f n && allS C set fl f n)) := by
  have hn := w.nums
  have n12 := g.2.1
  have bad : ∀ (i m : Nat), i ≤ m → allS C set fl f i = false → allS C set fl f m = false := by
    intro i m
    induction m with
    | zero => intro l e; have : i = 0 := by omega
              subst this; exact e
    | succ m ih =>
      intro l e
      by_cases q : i = m + 1
      · subst q; exact e
      · show (allS C set fl f m && _) = false
        rw [ih (by omega) e, Bool.false_and]
  unfold mX19_isSuspect
  refine WP.of (WP_bE.2 ?_)
  refine WP_cnt n (fun i z => z.2 = (i : Int) ∧ z.1 = b2i (anyS C set f i) ∧ allS C set fl f i = true) (by unfold cFU; omega) ⟨rfl, rfl, rfl⟩ (fun i z hi hI => ?_) (fun z hI => ?_)
  · obtain ⟨b1, b2, b3⟩ := hI
    obtain ⟨s1, s2, s3⟩ := g.2.2 i hi
    obtain ⟨p, hp⟩ : ∃ p : Nat, set i = (p : Int) := ⟨(set i).toNat, by omega⟩
    have hp2 : p < 2 ^ kB C := by
      rw [hp] at s3; exact Int.ofNat_lt.1 s3
    unfold mX19_isSuspect_L4
    rw [h.1, gk_chip hk, g.1, b1, w32_id (by omega), w32_id (by omega), if_pos (by omega), gk_chip hk, rdI_e (by omega), Int.toNat_natCast, s1, hp, k_rowShows hk w h hf hp2, bX_some, gk_chip hk, rdZ_e (by omega), Int.toNat_natCast, hF i hi, bz_b2i, w32_b2i, w32_b2i]
    have tp : (set i).toNat = p := by rw [hp, Int.toNat_natCast]
    by_cases q : kShow C f p = fl i
    · rw [if_neg (fun g' => g' (by rw [q]))]
      refine WP_some.2 ⟨by show (i : Int) + 1 = _; omega, ?_, ?_⟩
      · show aOr z.1 (b2i (kShow C f p)) = b2i (anyS C set f i || kShow C f (set i).toNat)
        rw [b2, tp]
        cases anyS C set f i <;> cases kShow C f p <;> rfl
      · show (allS C set fl f i && (kShow C f (set i).toNat == fl i)) = true
        rw [b3, tp, q]; cases fl i <;> rfl
    · rw [if_pos (by rw [b2i_inj]; exact q)]
      refine WP_some.2 ?_
      show (0 : Int) = _
      have e : allS C set fl f (i + 1) = false := by
        show (allS C set fl f i && (kShow C f (set i).toNat == fl i)) = false
        rw [b3, tp, Bool.true_and]
        revert q
        cases kShow C f p <;> cases fl i <;> simp
      rw [bad (i + 1) n (by omega) e, Bool.and_false]; rfl
  · obtain ⟨b1, b2, b3⟩ := hI
    unfold mX19_isSuspect_L4
    rw [h.1, gk_chip hk, g.1, b1, w32_id (by omega), if_neg (by omega)]
    refine WP_some.2 ?_
    show WP (gz z.1 (some z.1)) _
    rw [b2, gz_b2i, b3, Bool.and_true]
    exact WP_some.2 rfl
end KSUS
