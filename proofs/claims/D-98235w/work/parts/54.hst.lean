/-! LAYER 2: the twin's honesty -/
def hsT (r : Int → Int) (set others : Int) (p : Nat) : Int := if (if bAnd (bShr set p) 1 = 1 then (1 : Int) else 0) = others then 0 else waitF (ppl r) (hoE r set) (r 2) p
def hsV (r : Int → Int) (set others : Int) : Int := sumN (hsT r set others) (r 5).toNat
theorem hoQ_c (q : Int → Int) (set : Int) (p : Int) : ∀ n : Nat, hoQ q set n (7 * p + 2) = q (7 * p + 2)
  | 0 => rfl
  | n + 1 => by
    show beQ (hoQ q set n) n _ (7 * p + 2) = _
    unfold beQ upI
    rw [if_neg (by omega), if_neg (by omega)]
    exact hoQ_c q set p n
section EV
variable {h : Hp} {M : Int} {F : Nat → Int} {A : Int → Int → Int} {e : Int → Int} {Q : Int → Hp → Prop} {Qv : Hp → Prop} {B : Int}
theorem p_honesty {set others : Int} (LY : Lay_X4 (blk h M 15 F A) M) (hB : 10000 ≤ B ∧ B ≤ 100000) (S : Scr F A) (hH : HR B F A)
    (no : F 14 = 0 → ∀ F' A', Post F A 1 F' A' → Q (-1) (blk h M 15 F' A'))
    (no2 : F 14 ≠ 0 → ¬ (0 ≤ set ∧ set ≤ bShl 1 (A 3 5) - 1) → ∀ F' A', Post F A 2 F' A' → Q (-1) (blk h M 15 F' A'))
    (yes : F 14 ≠ 0 → (0 ≤ set ∧ set ≤ bShl 1 (A 3 5) - 1) → ∀ F' A', Post F A 0 F' A' → Q (hsV (A 3) set others) (blk h M 15 F' A')) : g_X4_honesty M set others Q (blk h M 15 F A) := by
  unfold g_X4_honesty
  refine t_good (fun _ => s_setWhy (fun z => (hH z).1) (fun _ => ?_))
  rw [gF_o (by decide) (by decide)]
  by_cases c0 : F 14 = 0
  · rw [if_pos c0]
    exact ⟨fun z => absurd z (by decide), fun _ => t_no (fun _ => no c0 _ _ (post_no S))⟩
  rw [if_neg c0]
  by_cases c1 : 0 ≤ set ∧ set ≤ bShl 1 (A 3 5) - 1
  · rw [if_pos c1]
    obtain ⟨HO, R⟩ := hH c0
    have hn := HO.pm
    have hbl := HO.bell
    refine ⟨fun _ => ?_, fun z => absurd rfl z⟩
    refine t_layHonest (lay_of LY ⟨rfl, rfl, rfl, rfl, rfl, rfl, rfl, rfl, rfl, rfl, rfl, rfl, rfl, rfl, rfl⟩) hB HO R (post_g S) (fun q F' A' hqq P lo e10 e6 R6 e26 _ _ => ?_)
    have a3 : A' 3 = A 3 := P.1.1.2.1
    have PQ : PplOK (A' 10) := by rw [e10]; exact hoQ_ok hqq.1 _
    have we : ∀ p : Int, 0 ≤ p → p < 10 → waitF (A' 10) (A' 6) (F' 26) p = waitF (ppl (A 3)) (hoE (A 3) set) (A 3 2) p := by
      intro p p1 p2
      rw [e6, e26, e10]
      unfold waitF
      rw [hoQ_c, eqQ_as hqq (7 * p + 2) (by omega) (by omega)]
    have hT : ∀ j : Nat, j < 10 → -110000 ≤ hsT (A 3) set others j ∧ hsT (A 3) set others j ≤ 110000 := by
      intro j hj
      have w := waitF_b (p := j) (bell := F' 26) hB PQ R6 (by rw [e26]; omega) ⟨by omega, by omega⟩
      rw [we j (by omega) (by omega)] at w
      unfold hsT
      split <;> omega
    refine Lp2_for (A 3 5).toNat 0 (sumN (hsT (A 3) set others)) (fun _ => blk h M 15 F' A') (fun K j hj hK => ?_) (fun K => ?_)
    · have sb := sumN_ab (f := hsT (A 3) set others) (B := 110000) j (fun i hi => hT i (by omega))
      have tb := hT j (by omega)
      rw [Int.zero_add]
      unfold g_X4_honesty_L31 g_X4_honesty_b64
      rw [tw_3, a3]
      refine ⟨fun z => absurd z (by omega), fun _ => t_hasBit (fun _ => ⟨fun z => ⟨(by first | omega | (unfold i32; omega)), ?_⟩, fun z => s_waitOf hB PQ R6 (by rw [e26]; omega) ⟨by omega, by omega⟩ (fun _ => ?_)⟩)⟩
      · rintro y rfl
        exact ⟨(by first | omega | (unfold i32; omega)), fun y ey => hK _ _ _ (by simp only [sumN]; rw [show hsT (A 3) set others j = 0 from if_pos z]) (by omega) rfl⟩
      · have et : hsT (A 3) set others j = waitF (A' 10) (A' 6) (F' 26) j := by
          rw [we j (by omega) (by omega)]; exact if_neg z
        rw [← et]
        refine ⟨(by first | omega | (unfold i32; omega)), ?_⟩
        rintro y rfl
        exact ⟨(by first | omega | (unfold i32; omega)), fun y ey => hK _ _ _ rfl (by omega) rfl⟩
    · unfold g_X4_honesty_L31 g_X4_honesty_b73
      rw [tw_3, a3]
      exact ⟨fun _ => yes c0 c1 F' A' P, fun z => absurd z (by omega)⟩
  · rw [if_neg c1]
    exact ⟨fun z => absurd z (by decide), fun _ => t_no (fun _ => no2 c0 c1 _ _ (post_no S))⟩
end EV
