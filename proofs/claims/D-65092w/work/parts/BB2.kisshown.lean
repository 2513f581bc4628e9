/-! whether some other pattern of the set shows a fault -/
section KISS
variable {S : Sto} {k : Nat} {C : Chp}
def anyX (C : Chp) (set : Nat → Int) (f : Nat) (x : Int) : Nat → Bool
  | 0 => false
  | n + 1 => anyX C set f x n || (decide ((n : Int) ≠ x) && kShow C f (set n).toNat)
theorem anyX_up {set : Nat → Int} {f i m : Nat} {x : Int} (l : i ≤ m) (e : anyX C set f x i = true) : anyX C set f x m = true := by
  induction m with
  | zero => have : i = 0 := by omega
            subst this; exact e
  | succ m ih =>
    by_cases q : i = m + 1
    · subst q; exact e
    · show (anyX C set f x m || _) = true
      rw [ih (by omega), Bool.true_or]
/-- none shows it -/
theorem cntS_0 {set : Nat → Int} {f n : Nat} : cntS C set f n = 0 ↔ anyX C set f (-1) n = false := by
  induction n with
  | zero => exact ⟨fun _ => rfl, fun _ => rfl⟩
  | succ n ih =>
    show (cntS C set f n + (if kShow C f (set n).toNat = true then 1 else 0) = 0) ↔ (anyX C set f (-1) n || (decide ((n : Int) ≠ -1) && kShow C f (set n).toNat)) = false
    rw [decide_eq_true (show (n : Int) ≠ -1 by omega), Bool.true_and, Bool.or_eq_false_iff, ← ih]
    cases kShow C f (set n).toNat with
    | true => rw [if_pos rfl]; exact ⟨fun h => by omega, fun h => absurd h.2 (by decide)⟩
    | false => rw [if_neg (by decide)]; exact ⟨fun h => ⟨by omega, rfl⟩, fun h => by omega⟩
/-- one of them shows it: whether more do -/
theorem cntS_1 {set : Nat → Int} {f n d : Nat} : cntS C set f n = (if d < n ∧ kShow C f (set d).toNat = true then 1 else 0) ↔ anyX C set f (d : Int) n = false := by
  induction n with
  | zero => rw [if_neg (by omega)]; exact ⟨fun _ => rfl, fun _ => rfl⟩
  | succ n ih =>
    show (cntS C set f n + (if kShow C f (set n).toNat = true then 1 else 0) = _) ↔ (anyX C set f (d : Int) n || (decide ((n : Int) ≠ (d : Int)) && kShow C f (set n).toNat)) = false
    have ge : (if d < n ∧ kShow C f (set d).toNat = true then 1 else 0) ≤ cntS C set f n := by
      clear ih
      induction n with
      | zero => rw [if_neg (by omega)]; exact Nat.zero_le _
      | succ n ih =>
        show _ ≤ cntS C set f n + (if kShow C f (set n).toNat = true then 1 else 0)
        by_cases q : d = n
        · subst q
          cases kShow C f (set d).toNat with
          | true => rw [if_pos ⟨by omega, rfl⟩, if_pos rfl]; omega
          | false => rw [if_neg (fun g => absurd g.2 (by decide))]; exact Nat.zero_le _
        · by_cases g : d < n + 1 ∧ kShow C f (set d).toNat = true
          · rw [if_pos ⟨by omega, g.2⟩] at ih
            rw [if_pos g]; omega
          · rw [if_neg g]; exact Nat.zero_le _
    rw [Bool.or_eq_false_iff, ← ih]
    by_cases q : n = d
    · subst q
      rw [decide_eq_false (by omega), Bool.false_and]
      have e0 : (if n < n ∧ kShow C f (set n).toNat = true then 1 else 0) = 0 := if_neg (by omega)
      rw [e0]
      cases kShow C f (set n).toNat with
      | true => rw [if_pos rfl, if_pos ⟨by omega, rfl⟩]; exact ⟨fun h => ⟨by omega, rfl⟩, fun h => by omega⟩
      | false => rw [if_neg (by decide), if_neg (fun g => absurd g.2 (by decide))]; exact ⟨fun h => ⟨by omega, rfl⟩, fun h => by omega⟩
    · rw [decide_eq_true (by omega), Bool.true_and]
      have e1 : (if d < n + 1 ∧ kShow C f (set d).toNat = true then 1 else 0) = (if d < n ∧ kShow C f (set d).toNat = true then 1 else 0) := by
        by_cases g : d < n ∧ kShow C f (set d).toNat = true
        · rw [if_pos g, if_pos ⟨by omega, g.2⟩]
        · rw [if_neg g, if_neg (fun g' => g ⟨by omega, g'.2⟩)]
      rw [e1]
      cases kShow C f (set n).toNat with
      | true => rw [if_pos rfl]; exact ⟨fun h => by omega, fun h => absurd h.2 (by decide)⟩
      | false => rw [if_neg (by decide)]; exact ⟨fun h => ⟨by omega, rfl⟩, fun h => by omega⟩
theorem k_isShown (hk : k < 4) (w : WFC C) {set : Nat → Int} {n f : Nat} {x : Int} (hx : -1 ≤ x ∧ x < 2000) (h : KRow S k C) (g : KSet S k C set n) (hf : f < kFa C) : mX19_isShown S (f : Int) x = some (b2i (anyX C set f x n)) := by
  have n12 := g.2.1
  unfold mX19_isShown
  refine WP.of (WP_bE.2 ?_)
  refine WP_cnt n (fun i z => z = (i : Int) ∧ anyX C set f x i = false) (by unfold cFU; omega) ⟨rfl, rfl⟩ (fun i z hi hI => ?_) (fun z hI => ?_)
  · obtain ⟨b1, b2⟩ := hI
    subst b1
    obtain ⟨s1, s2, s3⟩ := g.2.2 i hi
    obtain ⟨p, hp⟩ : ∃ p : Nat, set i = (p : Int) := ⟨(set i).toNat, by omega⟩
    have hp2 : p < 2 ^ kB C := by rw [hp] at s3; exact Int.ofNat_lt.1 s3
    have tp : (set i).toNat = p := by rw [hp, Int.toNat_natCast]
    have st : anyX C set f x (i + 1) = (decide ((i : Int) ≠ x) && kShow C f p) := by
      show (anyX C set f x i || (decide ((i : Int) ≠ x) && kShow C f (set i).toNat)) = _
      rw [b2, tp, Bool.false_or]
    unfold mX19_isShown_L2
    rw [h.1, gk_chip hk, g.1, w32_id (by omega), w32_id (by omega), if_pos (by omega), w32_id (by omega)]
    by_cases q : (i : Int) = x
    · rw [if_neg (fun g' => g' q), bX_some, if_neg (by decide)]
      rw [decide_eq_false (fun g' => g' q), Bool.false_and] at st
      exact WP_some.2 ⟨by show (i : Int) + 1 = _; omega, st⟩
    · rw [if_pos q, gk_chip hk, rdI_e (by omega), Int.toNat_natCast, s1, hp, k_rowShows hk w h hf hp2, bX_some, w32_b2i]
      rw [decide_eq_true q, Bool.true_and] at st
      cases e : kShow C f p with
      | true =>
        rw [e] at st
        rw [if_pos (by decide), bX_some, if_pos rfl]
        refine WP_some.2 ?_
        show (1 : Int) = _
        rw [anyX_up (show i + 1 ≤ n by omega) st]; rfl
      | false =>
        rw [e] at st
        rw [if_neg (by decide), bX_some, if_neg (by decide)]
        exact WP_some.2 ⟨by show (i : Int) + 1 = _; omega, st⟩
  · obtain ⟨b1, b2⟩ := hI
    subst b1
    unfold mX19_isShown_L2
    rw [h.1, gk_chip hk, g.1, w32_id (by omega), if_neg (by omega)]
    refine WP_some.2 (WP_some.2 ?_)
    rw [b2]; rfl
end KISS
