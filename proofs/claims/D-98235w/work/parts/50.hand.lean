/-! LAYER 2: the twin's one more of the staff -/
def hanC (c : Int → Int) (cm long : Int) : Int → Int := upI (upI (upI (upI (upI (upI c (6 * cm + 0) 3) (6 * cm + 1) (long / 2)) (6 * cm + 2) 0) (6 * cm + 3) (long - 1)) (6 * cm + 4) 1) (6 * cm + 5) 1
theorem hanC_ok {c : Int → Int} {cm long : Int} (C : CrewOK c) (hl : 1 ≤ long ∧ long ≤ 20) : CrewOK (hanC c cm long) := by
  refine ⟨fun s h1 h2 => ?_, fun s h1 h2 => ?_, fun s h1 h2 => ?_, fun s h1 h2 => ?_, fun s h1 h2 => ?_, fun s h1 h2 => ?_⟩
  · have := C.rule s h1 h2; unfold hanC upI; repeat' split
    all_goals omega
  · have := C.stands s h1 h2; unfold hanC upI; repeat' split
    all_goals omega
  · have := C.frm s h1 h2; unfold hanC upI; repeat' split
    all_goals omega
  · have := C.til s h1 h2; unfold hanC upI; repeat' split
    all_goals omega
  · have := C.step s h1 h2; unfold hanC upI; repeat' split
    all_goals omega
  · have := C.hands s h1 h2; unfold hanC upI; repeat' split
    all_goals omega
theorem hanC_cg {r c : Int → Int} {cm : Nat} {long : Int} (h : asC r c) (hc : cm ≤ 3) : eqC (cm + 1) (hanC c cm long) (hanC (crw r) cm long) := by
  intro j h1 h2
  unfold hanC upI
  by_cases e : j < 6 * (cm : Int)
  · rw [eqC_as h hc j h1 e]
  · repeat' split
    all_goals first | rfl | omega
theorem RowOK.up4 {B : Int} {row : Int → Int} {s v : Int} (R : RowOK B row) (hB : 10000 ≤ B) (hs : 0 ≤ s ∧ s < 4) (hv : 0 ≤ v ∧ v ≤ 19) : RowOK B (upI row (92 + 4 * s) v) := by
  have keep : ∀ j : Int, j ≠ 92 + 4 * s → upI row (92 + 4 * s) v j = row j := fun j hj => if_neg hj
  refine ⟨by rw [keep 0 (by omega)]; exact R.now, fun j => ?_, fun q q1 q2 => ?_, fun t s1 s2 => ?_, fun t s1 s2 => ?_, by rw [keep 1 (by omega)]; exact R.served, ?_, fun q q1 q2 => ?_, fun q q1 q2 => ?_, fun j hj => by rw [keep j (by omega)]; exact R.out j hj⟩
  · have := R.cells j
    unfold upI; split <;> omega
  · rw [keep _ (by omega)]; exact R.place q q1 q2
  · have := R.stands t s1 s2
    unfold upI; split <;> omega
  · rw [keep _ (by omega)]; exact R.last t s1 s2
  · rw [keep 1 (by omega)]
    have := cw_le (a := upI row (92 + 4 * s) v) (b := row) (fun q q1 q2 z => by rw [keep _ (by omega)] at z; exact z)
    have := R.room
    omega
  · rw [keep _ (by omega)]; exact R.who q q1 q2
  · rw [keep _ (by omega)]; exact R.does q q1 q2
def haE (r st : Int → Int) : Int → Int := evF r (hanC (crw r) (r 4) (r 1)) (ppl r) (r 4 + 1).toNat (r 2) (upI st (92 + 4 * r 4) (r 1 / 2))
def haV (r st : Int → Int) : Int := sumF r (ppl r) (haE r st) (r 2) 0 - sumF r (ppl r) (evT r st) (r 2) 0
theorem upI_z {f : Int → Int} {i v : Int} (h : f i = v) : upI f i v = f := by rw [← h]; exact upI_id f i
theorem sum0_b {r q e : Int → Int} {bell : Int} (hn : (r 5).toNat ≤ 10) : 0 ≤ sumF r q e bell 0 ∧ sumF r q e bell 0 ≤ 10 := by
  have := sumN_01 (f := fun p => sumT r q e bell 0 p) (r 5).toNat (fun i hi => by
    unfold sumT
    rw [if_pos (rfl : (0 : Int) = 0)]
    split
    · omega
    · split <;> omega)
  unfold sumF; omega
section EV
variable {h : Hp} {M : Int} {F : Nat → Int} {A : Int → Int → Int} {e : Int → Int} {Q : Int → Hp → Prop} {Qv : Hp → Prop} {B : Int}
theorem p_hand (T : TT h M) (hB : 10000 ≤ B ∧ B ≤ 100000) (S : Scr F A) (hH : HR B F A) (hz : F 14 ≠ 0 → ∀ j : Int, 92 + 4 * A 3 4 ≤ j → j < 108 → A 5 j = 0)
    (no : F 14 = 0 → ∀ F' A', Post F A 1 F' A' → Q (-100) (blk h M 15 F' A'))
    (yes : F 14 ≠ 0 → ∀ F' A', Post F A 0 F' A' → Q (haV (A 3) (A 5)) (blk h M 15 F' A')) : g_X4_hand M Q (blk h M 15 F A) := by
  unfold g_X4_hand
  refine t_good (fun _ => ?_)
  rw [blk_F, gF_o (by decide) (by decide)]
  refine ⟨fun c0 => ?_, fun c0 => t_noLess (fun _ => no c0 _ _ (post_no S))⟩
  obtain ⟨HO, R⟩ := hH c0
  have hz := hz c0
  have hn := HO.pm
  have hbl := HO.bell
  have hcm := HO.sm
  have hlg := HO.long
  refine t_tellEvening T hB HO S R (fun c q F' A' hc hqq L RE _ => ?_)
  obtain ⟨rfl, l1, l2, l3⟩ := L
  rw [evT_of HO hc hqq] at RE ⊢
  refine t_sumOf hB HO hqq.1 RE (by rw [l2]; omega) (fun _ => ?_)
  rw [l2, show upR (upR A 9 c) 10 q 10 = q from rfl, show upR (upR A 9 c) 10 q 3 = A 3 from rfl]
  have s1 := sum0_b (r := A 3) (q := q) (e := evT (A 3) (A 5)) (bell := A 3 2) (by omega)
  generalize hv1 : sumF (A 3) q (evT (A 3) (A 5)) (A 3 2) 0 = v1 at s1 ⊢
  unfold RW
  generalize hA9 : upR (upR (upR A 9 c) 10 q) 6 (evT (A 3) (A 5)) = A9
  have a1 : A9 1 = A 1 := by rw [← hA9]; rfl
  have a3 : A9 3 = A 3 := by rw [← hA9]; rfl
  have a5 : A9 5 = A 5 := by rw [← hA9]; rfl
  have a7 : A9 7 = A 7 := by rw [← hA9]; rfl
  have a8 : A9 8 = A 8 := by rw [← hA9]; rfl
  have a9 : A9 9 = c := by rw [← hA9]; rfl
  have a10 : A9 10 = q := by rw [← hA9]; rfl
  have a6 : ∀ j : Int, j < 0 ∨ 108 ≤ j → A9 6 j = 0 := by rw [← hA9]; exact fun j hj => RE.out j hj
  have n3 : ∀ f : Int → Int, upR A9 9 f 3 = A 3 := fun f => a3
  rw [blk_F, l1]
  refine ⟨(by first | omega | (unfold i32; omega)), ?_⟩
  rintro y35 rfl
  refine ⟨(by first | omega | (unfold i32; omega)), (by first | omega | (unfold i32; omega)), ?_⟩
  rintro m44 rfl
  rw [tws_9, a9, tw_3, n3]
  refine ⟨(by first | omega | (unfold i32; omega)), (by first | omega | (unfold i32; omega)), (by first | omega | (unfold i32; omega)), ?_⟩
  rintro m60 rfl
  rw [tws_9, upR_up, upR_eq]
  refine ⟨(by first | omega | (unfold i32; omega)), (by first | omega | (unfold i32; omega)), ?_⟩
  rintro m69 rfl
  rw [tws_9, upR_up, upR_eq, tw_3, n3]
  refine ⟨(by first | omega | (unfold i32; omega)), (by first | omega | (unfold i32; omega)), (by first | omega | (unfold i32; omega)), ?_⟩
  rintro m85 rfl
  rw [tws_9, upR_up, upR_eq]
  refine ⟨(by first | omega | (unfold i32; omega)), (by first | omega | (unfold i32; omega)), ?_⟩
  rintro m94 rfl
  rw [tws_9, upR_up, upR_eq]
  refine ⟨(by first | omega | (unfold i32; omega)), (by first | omega | (unfold i32; omega)), ?_⟩
  rintro m103 rfl
  rw [tws_9, upR_up, upR_eq, blk_F, l1, show upI (upI (upI (upI (upI (upI c (6 * A 3 4 + 0) 3) (6 * A 3 4 + 1) (A 3 1 / 2)) (6 * A 3 4 + 2) 0) (6 * A 3 4 + 3) (A 3 1 - 1)) (6 * A 3 4 + 4) 1) (6 * A 3 4 + 5) 1 = hanC c (A 3 4) (A 3 1) from rfl]
  refine ⟨(by first | omega | (unfold i32; omega)), (by first | omega | (unfold i32; omega)), ?_⟩
  rintro y113 rfl
  refine ⟨(by first | omega | (unfold i32; omega)), (by first | omega | (unfold i32; omega)), (by first | omega | (unfold i32; omega)), ?_⟩
  rintro m127 rfl
  rw [tw_9, upR_eq, show hanC c (A 3 4) (A 3 1) (6 * A 3 4 + 1) = A 3 1 / 2 from by
    unfold hanC upI
    rw [if_neg (by omega), if_neg (by omega), if_neg (by omega), if_neg (by omega), if_pos rfl], tws_5, upR_ne (show (5 : Int) ≠ 9 by omega), a5]
  have CH : CrewOK (hanC c (A 3 4) (A 3 1)) := hanC_ok hc.1 hlg
  have RU : RowOK B (upI (A 5) (92 + 4 * A 3 4) (A 3 1 / 2)) := R.up4 hB.1 ⟨by omega, by omega⟩ ⟨by omega, by omega⟩
  generalize hA2 : upR (upR A9 9 (hanC c (A 3 4) (A 3 1))) 5 (upI (A 5) (92 + 4 * A 3 4) (A 3 1 / 2)) = A2
  have b3 : A2 3 = A 3 := by rw [← hA2]; exact a3
  have b5 : A2 5 = upI (A 5) (92 + 4 * A 3 4) (A 3 1 / 2) := by rw [← hA2]; rfl
  have b9 : A2 9 = hanC c (A 3 4) (A 3 1) := by rw [← hA2]; rfl
  have b10 : A2 10 = q := by rw [← hA2]; exact a10
  have z1 : ∀ i : Int, 1 ≤ i → i < 4 → upI (upI (A 5) (92 + 4 * A 3 4) (A 3 1 / 2)) (92 + 4 * A 3 4 + i) 0 = upI (A 5) (92 + 4 * A 3 4) (A 3 1 / 2) := fun i i1 i2 => upI_z (by
    unfold upI; rw [if_neg (by omega)]; exact hz _ (by omega) (by omega))
  refine Lp3_for 3 1 (fun _ => v1) (fun _ => 92 + 4 * A 3 4) (fun _ => blk h M 15 F' A2) (fun K j hj hK => ?_) (fun K => ?_)
  · unfold g_X4_hand_L131
    refine ⟨fun z => absurd z (by omega), fun _ => ⟨(by first | omega | (unfold i32; omega)), (by first | omega | (unfold i32; omega)), ?_⟩⟩
    rintro m146 rfl
    refine ⟨(by first | omega | (unfold i32; omega)), fun y ey => hK _ _ _ _ rfl rfl ey ?_⟩
    rw [tws_5, b5, z1 _ (by omega) (by omega), ← b5]
    rw [show upR A2 5 (A2 5) = A2 from by funext j; unfold upR; by_cases e : j = 5 <;> simp [e]]
  · unfold g_X4_hand_L131 g_X4_hand_b153
    refine ⟨fun _ => ?_, fun z => absurd z (by omega)⟩
    rw [blk_F, l1]
    refine ⟨(by first | omega | (unfold i32; omega)), ?_⟩
    rintro m160 rfl
    rw [blk_setF]
    have x25 : upN F' 25 (A 3 4 + 1) 25 = A 3 4 + 1 := rfl
    have x26 : upN F' 25 (A 3 4 + 1) 26 = A 3 2 := l2
    have RE2 := (evF_ok (q := q) (cm := (A 3 4 + 1).toNat) (bell := A 3 2) hB.1 HO CH (by omega) ⟨by omega, by omega⟩ RU).1
    have ev : evF (A 3) (hanC c (A 3 4) (A 3 1)) q (A 3 4 + 1).toNat (A 3 2) (upI (A 5) (92 + 4 * A 3 4) (A 3 1 / 2)) = haE (A 3) (A 5) := by
      have hg := hanC_cg (long := A 3 1) hc (cm := (A 3 4).toNat) (by omega)
      rw [show (((A 3 4).toNat : Nat) : Int) = A 3 4 by omega, show (A 3 4).toNat + 1 = (A 3 4 + 1).toNat by omega] at hg
      exact evF_cg (by omega) hg (eqQ_as hqq)
    refine t_evening T hB (by rw [b3]; exact HO) (by rw [b9]; exact CH) (by rw [b10]; exact hqq.1) (by rw [x25]; omega) (by rw [x26]; omega) (by rw [b5]; exact RU) (by rw [← hA2]; exact a6) (fun _ => ?_)
    rw [b3, b5, b9, b10, x25, x26]
    rw [ev] at RE2 ⊢
    unfold RW
    have b5' : upR A2 6 (haE (A 3) (A 5)) 5 = upI (A 5) (92 + 4 * A 3 4) (A 3 1 / 2) := b5
    have zz : upI (upI (A 5) (92 + 4 * A 3 4) (A 3 1 / 2)) (92 + 4 * A 3 4) 0 = A 5 := by
      rw [upI_up]; exact upI_z (hz _ (by omega) (by omega))
    refine Lp3_for 4 0 (fun _ => v1) (fun _ => 92 + 4 * A 3 4) (fun j => blk h M 15 (upN F' 25 (A 3 4 + 1)) (if j = 0 then upR A2 6 (haE (A 3) (A 5)) else upR (upR A2 6 (haE (A 3) (A 5))) 5 (A 5))) (fun K j hj hK => ?_) (fun K => ?_)
    · unfold g_X4_hand_L170
      rw [Int.zero_add]
      refine ⟨fun z => absurd z (by omega), fun _ => ⟨(by first | omega | (unfold i32; omega)), (by first | omega | (unfold i32; omega)), ?_⟩⟩
      rintro m185 rfl
      refine ⟨(by first | omega | (unfold i32; omega)), fun y ey => hK _ _ _ _ rfl rfl (by omega) ?_⟩
      rw [tws_5, if_neg (show ¬ j + 1 = 0 by omega)]
      by_cases ej : j = 0
      · subst ej
        rw [if_pos rfl, b5', show (92 + 4 * A 3 4 + ((0 : Nat) : Int)) = 92 + 4 * A 3 4 by omega, zz]
      · rw [if_neg ej, upR_eq, upR_up, upI_z (hz _ (by omega) (by omega))]
    · unfold g_X4_hand_L170 g_X4_hand_b192
      refine ⟨fun _ => ?_, fun z => absurd z (by omega)⟩
      rw [if_neg (show ¬ (4 : Nat) = 0 by omega)]
      have s2 := sum0_b (r := A 3) (q := q) (e := haE (A 3) (A 5)) (bell := A 3 2) (by omega)
      refine s_sumOf hB (show HouseOK (A2 3) by rw [b3]; exact HO) (show PplOK (A2 10) by rw [b10]; exact hqq.1) (show RowOK B (haE (A 3) (A 5)) from RE2) (by rw [x26]; omega) (fun _ => ?_)
      rw [x26, show upR (upR A2 6 (haE (A 3) (A 5))) 5 (A 5) 3 = A 3 from b3, show upR (upR A2 6 (haE (A 3) (A 5))) 5 (A 5) 10 = q from b10, show upR (upR A2 6 (haE (A 3) (A 5))) 5 (A 5) 6 = haE (A 3) (A 5) from rfl]
      refine ⟨(by first | omega | (unfold i32; omega)), ?_⟩
      have ey : sumF (A 3) q (haE (A 3) (A 5)) (A 3 2) 0 - v1 = haV (A 3) (A 5) := by
        unfold haV
        rw [← hv1, sumF_cg (by omega) (eqQ_as hqq) RE2, sumF_cg (by omega) (eqQ_as hqq) RE]
      rw [ey]
      refine yes c0 _ _ ⟨⟨⟨?_, b3, rfl, ?_, ?_⟩, fun j h0 h1 h2 h3 _ _ _ => by rw [upN_ne h2, l3 j h2 h3, gF_o h0 h1], show CrewOK (A2 9) by rw [b9]; exact CH, fun j hj => RE2.out j hj, by rw [x25]; omega, by rw [x25]; omega⟩, ?_, ?_⟩
      · rw [← hA2]; exact a1
      · rw [← hA2]; exact a7
      · rw [← hA2]; exact a8
      · rw [upN_ne (by decide), l3 0 (by decide) (by decide)]; rfl
      · rw [upN_ne (by decide), l3 11 (by decide) (by decide)]; rfl
end EV
