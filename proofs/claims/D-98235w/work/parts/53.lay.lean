/-! LAYER 2: the twin's evening of the honest and the liars -/
def hoE (r : Int → Int) (set : Int) : Int → Int := evF r (crw r) (hoQ (ppl r) set (r 5).toNat) (r 4).toNat (r 2) (lfS (hoQ (ppl r) set (r 5).toNat) (crw r) (r 5).toNat (r 4).toNat)
theorem lfP_cg {q q' : Int → Int} (h : eqQ q q') : ∀ n : Nat, n ≤ 10 → lfP q n = lfP q' n
  | 0, _ => rfl
  | n + 1, hn => by
    simp only [lfP]
    rw [lfP_cg h n (by omega)]
    unfold lfW
    rw [h (7 * n + 3) (by omega) (by omega), h (7 * n + 5) (by omega) (by omega), saysF_cg h ⟨by omega, by omega⟩]
theorem lfS_cg {q q' c c' : Int → Int} {n cm : Nat} (h : eqQ q q') (hc : eqC cm c c') (hn : n ≤ 10) : ∀ s : Nat, s ≤ cm → lfS q c n s = lfS q' c' n s
  | 0, _ => lfP_cg h n hn
  | s + 1, hs => by
    simp only [lfS]
    rw [lfS_cg h hc hn s (by omega), hc (6 * s + 1) (by omega) (by omega)]
section EV
variable {h : Hp} {M : Int} {F : Nat → Int} {A : Int → Int → Int} {e : Int → Int} {Q : Int → Hp → Prop} {Qv : Hp → Prop} {B : Int}
theorem t_layHonest {set : Int} {F1 : Nat → Int} {A1 : Int → Int → Int} (LY : Lay_X4 (blk h M 15 F1 A1) M) (hB : 10000 ≤ B ∧ B ≤ 100000) (HO : HouseOK (A 3)) (R : RowOK B (A 5)) (P : Post F A 0 F1 A1)
    (hq : ∀ (q : Int → Int) (F' : Nat → Int) (A' : Int → Int → Int), asP (A 3) q → Post F A 0 F' A' → Lof F1 F' → A' 10 = hoQ q set (A 3 5).toNat → A' 6 = hoE (A 3) set → RowOK B (A' 6) → F' 26 = A 3 2 → A' 12 = A1 12 → Qv (blk h M 15 F' A')) : g_X4_layHonest M set Qv (blk h M 15 F1 A1) := by
  have T := TT.of LY
  have b1 := HO.bell
  have b2 := HO.sm
  have b3 := HO.pm
  obtain ⟨⟨⟨a1, a3, a5, a7, a8⟩, fs, S1⟩, f0, f11⟩ := P
  unfold g_X4_layHonest
  refine t_asTold T (by rw [a3]; exact HO) S1.1 (fun c q hc hqq _ => ?_)
  rw [a3] at hc hqq ⊢
  rintro m11 rfl
  rw [tw_3, blk_setF, show upR (upR A1 9 c) 10 q 3 = A 3 from a3]
  generalize hF9 : upN (upN F1 25 (A 3 4)) 26 (A 3 2) = F9
  have lo : Lof F1 F9 := by rw [← hF9]; exact ⟨rfl, rfl, rfl, rfl, rfl, rfl, rfl, rfl, rfl, rfl, rfl, rfl, rfl, rfl, rfl⟩
  have x25 : F9 25 = A 3 4 := by rw [← hF9]; rfl
  have x26 : F9 26 = A 3 2 := by rw [← hF9]; rfl
  have xf : ∀ j : Nat, j ≠ 0 → j ≠ 11 → j ≠ 25 → j ≠ 26 → j ≠ 27 → j ≠ 28 → j ≠ 33 → F9 j = F j := fun j h0 h1 h2 h3 h4 h5 h6 => by rw [← hF9, upN_ne h3, upN_ne h2]; exact fs j h0 h1 h2 h3 h4 h5 h6
  have xf0 : F9 0 = 0 := by rw [← hF9]; exact f0
  have xf1 : F9 11 = 0 := by rw [← hF9]; exact f11
  refine Lp1_for (A 3 5).toNat 0 (fun j => blk h M 15 F9 (upR (upR A1 9 c) 10 (hoQ q set j))) (fun K j hj hK => ?_) (fun K => ?_)
  · rw [Int.zero_add]
    have b41 : ∀ v : Int, v = (if bAnd (bShr set j) 1 = 1 then 1 else 0) → g_X4_layHonest_b41 M set Qv K j M j v (blk h M 15 F9 (upR (upR A1 9 c) 10 (hoQ q set j))) := by
      intro v hv
      unfold g_X4_layHonest_b41
      refine ⟨lay_of LY lo, s_beOf T ⟨by omega, by omega⟩ (fun _ => ⟨(by first | omega | (unfold i32; omega)), fun y ey => hK _ _ (by omega) ?_⟩)⟩
      rw [upR_up, upR_eq, hv]; rfl
    unfold g_X4_layHonest_L16
    rw [tw_3, show upR (upR A1 9 c) 10 (hoQ q set j) 3 = A 3 from a3]
    refine ⟨fun z => absurd z (by omega), fun _ => t_hasBit (fun _ => ⟨fun z => b41 0 (by rw [if_neg (zero_of z)]), fun z => b41 1 (by rw [if_pos (one_of z)])⟩)⟩
  · unfold g_X4_layHonest_L16 g_X4_layHonest_b50
    rw [tw_3, show upR (upR A1 9 c) 10 (hoQ q set (A 3 5).toNat) 3 = A 3 from a3]
    refine ⟨fun _ => ?_, fun z => absurd z (by omega)⟩
    have PQ : PplOK (hoQ q set (A 3 5).toNat) := hoQ_ok hqq.1 _
    refine s_copy (i := 5) (j := 11) (by omega) (by omega) (by omega) (by omega) T.t5.1 T.t11.1 (by rw [T.t5.2]; omega) (by rw [T.t11.2]; omega) (fun _ => ?_)
    generalize hA2 : upR (upR (upR A1 9 c) 10 (hoQ q set (A 3 5).toNat)) 11 (fun t => if 0 ≤ t ∧ t < 0 + 108 then upR (upR A1 9 c) 10 (hoQ q set (A 3 5).toNat) 5 (0 + (t - 0)) else upR (upR A1 9 c) 10 (hoQ q set (A 3 5).toNat) 11 t) = A2
    have y3 : A2 3 = A 3 := by rw [← hA2]; exact a3
    have y5 : A2 5 = A 5 := by rw [← hA2]; exact a5
    have y9 : A2 9 = c := by rw [← hA2]; rfl
    have y10 : A2 10 = hoQ q set (A 3 5).toNat := by rw [← hA2]; rfl
    have y11 : ∀ t : Int, 0 ≤ t → t < 108 → A2 11 t = A 5 t := fun t t1 t2 => by
      rw [← hA2, upR_eq, if_pos (by omega), show 0 + (t - 0) = t by omega]
      exact congrFun a5 t
    have y6 : ∀ j : Int, j < 0 ∨ 108 ≤ j → A2 6 j = 0 := by rw [← hA2]; exact S1.2.1
    rw [RW_self h M F9 A2 5, y5]
    refine t_layFirst (fun j hj => R.out j hj) (by rw [y3]; exact HO) (by rw [y9]; exact hc.1) (by rw [y10]; exact PQ) (by rw [x25]; omega) (fun _ => ?_)
    rw [y3, y9, y10, x25]
    have RL : RowOK B (lfS (hoQ q set (A 3 5).toNat) c (A 3 5).toNat (A 3 4).toNat) := lfS_ok hB.1 PQ hc.1 (by omega) _ (by omega)
    have RE := (evF_ok (q := hoQ q set (A 3 5).toNat) (cm := (A 3 4).toNat) (bell := A 3 2) hB.1 HO hc.1 (by omega) ⟨by omega, by omega⟩ RL).1
    have ev : evF (A 3) c (hoQ q set (A 3 5).toNat) (A 3 4).toNat (A 3 2) (lfS (hoQ q set (A 3 5).toNat) c (A 3 5).toNat (A 3 4).toNat) = hoE (A 3) set := by
      unfold hoE
      rw [lfS_cg (hoQ_cg (eqQ_as hqq) _) (eqC_as hc (by omega)) (by omega) (A 3 4).toNat (Nat.le_refl _)]
      exact evF_cg (by omega) (eqC_as hc (by omega)) (hoQ_cg (eqQ_as hqq) _)
    unfold RW
    refine t_evening T hB (by rw [upR_ne (by omega), y3]; exact HO) (by rw [upR_ne (by omega), y9]; exact hc.1) (by rw [upR_ne (by omega), y10]; exact PQ) (by rw [x25]; omega) (by rw [x26]; omega) (by rw [upR_eq]; exact RL) (by rw [upR_ne (by omega)]; exact y6) (fun _ => ?_)
    rw [upR_eq, upR_ne (by omega), upR_ne (by omega), upR_ne (by omega), y3, y9, y10, x25, x26]
    rw [ev] at RE ⊢
    unfold RW
    refine s_copy (i := 11) (j := 5) (by omega) (by omega) (by omega) (by omega) T.t11.1 T.t5.1 (by rw [T.t11.2]; omega) (by rw [T.t5.2]; omega) (fun _ => ?_)
    have e5 : (fun t => if 0 ≤ t ∧ t < 0 + 108 then upR (upR A2 5 (lfS (hoQ q set (A 3 5).toNat) c (A 3 5).toNat (A 3 4).toNat)) 6 (hoE (A 3) set) 11 (0 + (t - 0)) else upR (upR A2 5 (lfS (hoQ q set (A 3 5).toNat) c (A 3 5).toNat (A 3 4).toNat)) 6 (hoE (A 3) set) 5 t) = A 5 := by
      funext t
      by_cases z : 0 ≤ t ∧ t < 0 + 108
      · rw [if_pos z, show 0 + (t - 0) = t by omega]
        exact y11 t (by omega) (by omega)
      · rw [if_neg z, R.out t (by omega)]
        exact RL.out t (by omega)
    rw [e5]
    refine hq q F9 _ hqq ⟨⟨⟨?_, y3, rfl, ?_, ?_⟩, xf, show CrewOK (A2 9) by rw [y9]; exact hc.1, fun j hj => RE.out j hj, by rw [x25]; omega, by rw [x25]; omega⟩, xf0, xf1⟩ lo y10 rfl RE x26 ?_
    · rw [← hA2]; exact a1
    · rw [← hA2]; exact a7
    · rw [← hA2]; exact a8
    · rw [← hA2]; rfl
end EV
