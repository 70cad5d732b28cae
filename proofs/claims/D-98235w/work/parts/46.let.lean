/-! LAYER 2: the twin's letCosts, beforehand -/
def lcV (r st : Int → Int) (p o : Int) : Int := waitF (ppl r) (evT r (upI st (12 + 8 * p + 3) (st (12 + 8 * o + 3) + 1))) (r 2) p - waitF (ppl r) (evT r st) (r 2) p
/-- people as told, but for one's shelf: ready as he comes -/
def shQ (q : Int → Int) (p : Int) : Int → Int := upI q (7 * p + 6) (q (7 * p + 2) + 1)
def bfV (r st : Int → Int) (p : Int) : Int := sumF r (ppl r) (evT r st) (r 2) 3 - sumF r (shQ (ppl r) p) (evF r (crw r) (shQ (ppl r) p) (r 4).toNat (r 2) st) (r 2) 3
theorem shQ_ok {q : Int → Int} {p : Int} (P : PplOK q) (hp : 0 ≤ p ∧ p < 10) : PplOK (shQ q p) := by
  have h := P.comes p hp.1 hp.2
  have keep : ∀ j : Int, j ≠ 7 * p + 6 → shQ q p j = q j := fun j hj => if_neg hj
  refine ⟨fun s h1 h2 => ?_, fun s h1 h2 => ?_, fun s h1 h2 => ?_, fun s h1 h2 => ?_, fun s h1 h2 => ?_, fun s h1 h2 => ?_, fun s h1 h2 => ?_⟩
  · rw [keep _ (by omega)]; exact P.manner s h1 h2
  · rw [keep _ (by omega)]; exact P.bys s h1 h2
  · rw [keep _ (by omega)]; exact P.comes s h1 h2
  · rw [keep _ (by omega)]; exact P.spot s h1 h2
  · rw [keep _ (by omega)]; exact P.patience s h1 h2
  · rw [keep _ (by omega)]; exact P.looks s h1 h2
  · have := P.shelf s h1 h2
    unfold shQ upI; split <;> omega
theorem shQ_cg {q q' : Int → Int} {p : Int} (h : eqQ q q') (hp : 0 ≤ p ∧ p < 10) : eqQ (shQ q p) (shQ q' p) := by
  intro j h1 h2
  unfold shQ upI
  rw [h j h1 h2, h (7 * p + 2) (by omega) (by omega)]
theorem RowOK.mono {B B2 : Int} {row : Int → Int} (R : RowOK B row) (h : B ≤ B2) : RowOK B2 row :=
  ⟨R.now, fun j => by have := R.cells j; omega, R.place, R.stands, R.last, R.served, R.room, R.who, R.does, R.out⟩
section EV
variable {h : Hp} {M : Int} {F : Nat → Int} {A : Int → Int → Int} {e : Int → Int} {Q : Int → Hp → Prop} {Qv : Hp → Prop} {B : Int}
theorem p_letCosts {p o : Int} (T : TT h M) (hB : 10000 ≤ B ∧ B ≤ 99999) (S : Scr F A) (hH : HR B F A)
    (no : ¬ (isP F A p ∧ isP F A o ∧ p ≠ o) → ∀ F' A', Post F A 1 F' A' → Q (-1000) (blk h M 15 F' A'))
    (no5 : (isP F A p ∧ isP F A o ∧ p ≠ o) → ¬ canLet (A 5) p o → ∀ F' A', Post F A 5 F' A' → Q (-1000) (blk h M 15 F' A'))
    (yes : (isP F A p ∧ isP F A o ∧ p ≠ o) → canLet (A 5) p o → ∀ F' A', Post F A 0 F' A' → Q (lcV (A 3) (A 5) p o) (blk h M 15 F' A')) : g_X4_letCosts M p o Q (blk h M 15 F A) := by
  unfold g_X4_letCosts g_X4_letCosts_b25
  refine t_good (fun _ => t_isPerson (fun z => (hH z).1) (fun _ => ⟨fun c1 => t_noLess (fun _ => no (fun z => zero_of c1 z.1) _ _ (post_no S)), fun c1 => t_isPerson (fun z => (hH z).1) (fun _ => ⟨fun c2 => t_noLess (fun _ => no (fun z => zero_of c2 z.2.1) _ _ (post_no S)), fun c2 => ⟨fun c3 => ?_, fun c3 => t_noLess (fun _ => no (fun z => z.2.2 c3) _ _ (post_no S))⟩⟩)⟩))
  have c1 : isP F A p := one_of c1
  have c2 : isP F A o := one_of c2
  obtain ⟨HO, R⟩ := hH c1.1
  have hn := HO.pm
  have hbl := HO.bell
  have hcm := HO.sm
  have hp : 0 ≤ p ∧ p < 10 := ⟨c1.2.1, by omega⟩
  have ho : 0 ≤ o ∧ o < 10 := ⟨c2.2.1, by omega⟩
  have hB1 : 10000 ≤ B ∧ B ≤ 100000 := by omega
  have hB2 : 10000 ≤ B + 1 ∧ B + 1 ≤ 100000 := by omega
  have cc := R.cells (12 + 8 * o + 3)
  refine s_canNotLet hp ho (fun _ => ⟨fun c4 => ?_, fun c4 => ?_⟩)
  · have c4 : canLet (A 5) p o := by
      by_cases z : canLet (A 5) p o
      · exact z
      · rw [if_neg z] at c4; omega
    refine t_tellEvening T hB1 HO S R (fun c q F' A' hc hqq L RE _ => ?_)
    obtain ⟨rfl, l1, l2, l3⟩ := L
    rw [evT_of HO hc hqq] at RE ⊢
    have w1 := waitF_b (bell := F' 26) hB1 hqq.1 RE (by rw [l2]; omega) hp
    have w1b := w1
    rw [l2] at w1b
    refine t_waitOf hB1 hqq.1 RE (by rw [l2]; omega) hp (fun _ => ⟨(by first | omega | (unfold i32; omega)), (by first | omega | (unfold i32; omega)), (by first | omega | (unfold i32; omega)), ?_⟩)
    rintro y70 rfl
    refine ⟨(by first | omega | (unfold i32; omega)), ?_⟩
    rintro y79 rfl
    unfold RW
    rw [tw_5]
    generalize hA9 : upR (upR (upR A 9 c) 10 q) 6 (evT (A 3) (A 5)) = A9
    have a1 : A9 1 = A 1 := by rw [← hA9]; rfl
    have a3 : A9 3 = A 3 := by rw [← hA9]; rfl
    have a5 : A9 5 = A 5 := by rw [← hA9]; rfl
    have a7 : A9 7 = A 7 := by rw [← hA9]; rfl
    have a8 : A9 8 = A 8 := by rw [← hA9]; rfl
    have a9 : A9 9 = c := by rw [← hA9]; rfl
    have a10 : A9 10 = q := by rw [← hA9]; rfl
    have a6 : ∀ j : Int, j < 0 ∨ 108 ≤ j → A9 6 j = 0 := by rw [← hA9]; exact fun j hj => RE.out j hj
    have aq : upR (upR A 9 c) 10 q 10 = q := rfl
    rw [a5, aq]
    refine s_its (by omega) (by omega) ho ⟨by omega, by omega⟩ (fun _ => ?_)
    rw [a5]
    refine ⟨(by first | omega | (unfold i32; omega)), (by first | omega | (unfold i32; omega)), ?_⟩
    rintro m98 rfl
    rw [tws_5, a5]
    have RU : RowOK (B + 1) (upI (A 5) (12 + 8 * p + 3) (A 5 (12 + 8 * o + 3) + 1)) := (R.mono (by omega)).up hp (by omega) (by omega)
    have ev : evF (A 3) c q (A 3 4).toNat (A 3 2) (upI (A 5) (12 + 8 * p + 3) (A 5 (12 + 8 * o + 3) + 1)) = evT (A 3) (upI (A 5) (12 + 8 * p + 3) (A 5 (12 + 8 * o + 3) + 1)) := evT_of HO hc hqq
    have RE2 := (evF_ok (q := q) (cm := (A 3 4).toNat) (bell := A 3 2) hB2.1 HO hc.1 (by omega) ⟨by omega, by omega⟩ RU).1
    refine t_evening T hB2 (by rw [upR_ne (by omega), a3]; exact HO) (by rw [upR_ne (by omega), a9]; exact hc.1) (by rw [upR_ne (by omega), a10]; exact hqq.1) (by rw [l1]; omega) (by rw [l2]; omega) (by rw [upR_eq]; exact RU) (by rw [upR_ne (by omega)]; exact a6) (fun _ => ?_)
    rw [upR_eq, upR_ne (by omega), upR_ne (by omega), upR_ne (by omega), a3, a9, a10, l1, l2]
    rw [ev] at RE2 ⊢
    refine ⟨(by first | omega | (unfold i32; omega)), ?_⟩
    rintro m111 rfl
    unfold RW
    rw [tws_5, show ∀ f g : Int → Int, upR (upR A9 5 f) 6 g 5 = f from fun f g => rfl, upI_up, upI_id]
    have w2 := waitF_b (bell := F' 26) hB2 hqq.1 RE2 (by rw [l2]; omega) hp
    refine s_waitOf hB2 (by rw [show ∀ f g k : Int → Int, upR (upR (upR A9 5 f) 6 g) 5 k 10 = q from fun f g k => a10]; exact hqq.1) (show RowOK (B + 1) (evT (A 3) (upI (A 5) (12 + 8 * p + 3) (A 5 (12 + 8 * o + 3) + 1))) from RE2) (by rw [l2]; omega) hp (fun _ => ?_)
    rw [show ∀ f g k : Int → Int, upR (upR (upR A9 5 f) 6 g) 5 k 10 = q from fun f g k => a10, show ∀ f g k : Int → Int, upR (upR (upR A9 5 f) 6 g) 5 k 6 = g from fun f g k => rfl]
    refine ⟨(by first | omega | (unfold i32; omega)), ?_⟩
    rw [l2, waitF_cg (eqQ_as hqq) hp, waitF_cg (eqQ_as hqq) hp]
    exact yes ⟨c1, c2, c3⟩ c4 F' _ ⟨⟨⟨a1, a3, rfl, a7, a8⟩, fun j h0 h1 h2 h3 _ _ _ => by rw [l3 j h2 h3, gF_o h0 h1], show CrewOK (A9 9) by rw [a9]; exact hc.1, fun j hj => RE2.out j hj, by rw [l1]; omega, by rw [l1]; omega⟩, by rw [l3 0 (by decide) (by decide)]; rfl, by rw [l3 11 (by decide) (by decide)]; rfl⟩
  · rintro m44 rfl
    rw [blk_setF]
    exact no5 ⟨c1, c2, c3⟩ (fun z => by rw [if_pos z] at c4; exact c4 rfl) _ _ (post_no S)
theorem p_beforehand {p : Int} (T : TT h M) (hB : 10000 ≤ B ∧ B ≤ 100000) (S : Scr F A) (hH : HR B F A)
    (no : ¬ isP F A p → ∀ F' A', Post F A 1 F' A' → Q (-1000) (blk h M 15 F' A'))
    (no5 : isP F A p → ¬ (A 5 (12 + 8 * p + 0) = 0 ∧ A 3 (41 + 7 * p + 6) ≤ 0) → ∀ F' A', Post F A 5 F' A' → Q (-1000) (blk h M 15 F' A'))
    (yes : isP F A p → (A 5 (12 + 8 * p + 0) = 0 ∧ A 3 (41 + 7 * p + 6) ≤ 0) → ∀ F' A', Post F A 0 F' A' → Q (bfV (A 3) (A 5) p) (blk h M 15 F' A')) : g_X4_beforehand M p Q (blk h M 15 F A) := by
  have b46 : isP F A p → ¬ (A 5 (12 + 8 * p + 0) = 0 ∧ A 3 (41 + 7 * p + 6) ≤ 0) → g_X4_beforehand_b46 M p Q (blk h M 15 (gF F) A) := by
    intro z1 z2
    unfold g_X4_beforehand_b46
    rintro m48 rfl
    rw [blk_setF]
    exact no5 z1 z2 _ _ (post_no S)
  unfold g_X4_beforehand
  refine t_good (fun _ => t_isPerson (fun z => (hH z).1) (fun _ => ⟨fun c1 => ?_, fun c1 => t_noLess (fun _ => no (zero_of c1) _ _ (post_no S))⟩))
  have c1 : isP F A p := one_of c1
  obtain ⟨HO, R⟩ := hH c1.1
  have hn := HO.pm
  have hbl := HO.bell
  have hcm := HO.sm
  have hp : 0 ≤ p ∧ p < 10 := ⟨c1.2.1, by omega⟩
  refine s_hasCome hp (fun _ => ⟨fun c3 => b46 c1 (fun z => one_of c3 z.1), fun c3 => ?_⟩)
  have c3 : A 5 (12 + 8 * p + 0) = 0 := Classical.byContradiction (zero_of c3)
  rw [tw_3]
  refine ⟨(by first | omega | (unfold i32; omega)), (by first | omega | (unfold i32; omega)), (by first | omega | (unfold i32; omega)), (by first | omega | (unfold i32; omega)), fun c4 => ?_, fun c4 => b46 c1 (fun z => by omega)⟩
  refine t_tellEvening T hB HO S R (fun c q F' A' hc hqq L RE _ => ?_)
  obtain ⟨rfl, l1, l2, l3⟩ := L
  rw [evT_of HO hc hqq] at RE ⊢
  have sb : ∀ (q2 e2 : Int → Int), PplOK q2 → RowOK B e2 → -1100000 ≤ sumF (A 3) q2 e2 (A 3 2) 3 ∧ sumF (A 3) q2 e2 (A 3 2) 3 ≤ 1100000 := by
    intro q2 e2 P2 R2
    have hT := sumN_ab (f := fun p => sumT (A 3) q2 e2 (A 3 2) 3 p) (B := 110000) (A 3 5).toNat (fun i hi => by
      have w := waitF_b (bell := A 3 2) (p := i) hB P2 R2 (by omega) ⟨by omega, by omega⟩
      unfold sumT
      rw [if_neg (show ¬ (3 : Int) = 0 by decide), if_neg (show ¬ (3 : Int) = 1 by decide), if_neg (show ¬ (3 : Int) = 2 by decide), if_pos (rfl : (3 : Int) = 3)]
      split
      · omega
      · split <;> omega)
    unfold sumF; omega
  have s1 := sb q _ hqq.1 RE
  refine t_sumOf hB HO hqq.1 RE (by rw [l2]; omega) (fun _ => ?_)
  rw [l2, show upR (upR A 9 c) 10 q 10 = q from rfl, show upR (upR A 9 c) 10 q 3 = A 3 from rfl]
  unfold RW
  generalize hA9 : upR (upR (upR A 9 c) 10 q) 6 (evT (A 3) (A 5)) = A9
  have a1 : A9 1 = A 1 := by rw [← hA9]; rfl
  have a3 : A9 3 = A 3 := by rw [← hA9]; rfl
  have a5 : A9 5 = A 5 := by rw [← hA9]; rfl
  have a7 : A9 7 = A 7 := by rw [← hA9]; rfl
  have a8 : A9 8 = A 8 := by rw [← hA9]; rfl
  have a9 : A9 9 = c := by rw [← hA9]; rfl
  have a10 : A9 10 = q := by rw [← hA9]; rfl
  have a6 : ∀ j : Int, j < 0 ∨ 108 ≤ j → A9 6 j = 0 := by rw [← hA9]; exact fun j hj => RE.out j hj
  have qc := hqq.1.comes p hp.1 hp.2
  refine ⟨(by first | omega | (unfold i32; omega)), (by first | omega | (unfold i32; omega)), s_man hp ⟨by omega, by omega⟩ (fun _ => ?_)⟩
  rw [a10]
  refine ⟨(by first | omega | (unfold i32; omega)), (by first | omega | (unfold i32; omega)), ?_⟩
  rintro m84 rfl
  rw [tws_10, a10, show upI q (7 * p + 6) (q (7 * p + 2) + 1) = shQ q p from rfl]
  have PQ := shQ_ok hqq.1 hp
  have RE2 := (evF_ok (q := shQ q p) (cm := (A 3 4).toNat) (bell := A 3 2) hB.1 HO hc.1 (by omega) ⟨by omega, by omega⟩ R).1
  refine t_evening T hB (by rw [upR_ne (by omega), a3]; exact HO) (by rw [upR_ne (by omega), a9]; exact hc.1) (by rw [upR_eq]; exact PQ) (by rw [l1]; omega) (by rw [l2]; omega) (by rw [upR_ne (by omega), a5]; exact R) (by rw [upR_ne (by omega)]; exact a6) (fun _ => ?_)
  rw [upR_eq, upR_ne (by omega), upR_ne (by omega), upR_ne (by omega), a3, a9, a5, l1, l2]
  refine t_sumOf hB (by rw [upR_ne (by omega), a3]; exact HO) (by rw [upR_eq]; exact PQ) RE2 (by rw [l2]; omega) (fun _ => ?_)
  rw [l2, upR_eq, upR_ne (by omega), a3]
  have s2 := sb (shQ q p) _ PQ RE2
  refine ⟨(by first | omega | (unfold i32; omega)), ?_⟩
  have eS : evF (A 3) c (shQ q p) (A 3 4).toNat (A 3 2) (A 5) = evF (A 3) (crw (A 3)) (shQ (ppl (A 3)) p) (A 3 4).toNat (A 3 2) (A 5) := evF_cg (by omega) (eqC_as hc (by omega)) (shQ_cg (eqQ_as hqq) hp)
  rw [sumF_cg (by omega) (eqQ_as hqq) RE, sumF_cg (by omega) (shQ_cg (eqQ_as hqq) hp) RE2, eS]
  rw [eS] at RE2
  exact yes c1 ⟨c3, c4⟩ F' _ ⟨⟨⟨a1, a3, a5, a7, a8⟩, fun j h0 h1 h2 h3 _ _ _ => by rw [l3 j h2 h3, gF_o h0 h1], show CrewOK (A9 9) by rw [a9]; exact hc.1, fun j hj => RE2.out j hj, by rw [l1]; omega, by rw [l1]; omega⟩, by rw [l3 0 (by decide) (by decide)]; rfl, by rw [l3 11 (by decide) (by decide)]; rfl⟩
end EV
