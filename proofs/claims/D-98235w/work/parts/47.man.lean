/-! LAYER 2: the twin's best manner -/
def beQ (q : Int → Int) (p m : Int) : Int → Int := upI (upI q (7 * p + 0) m) (7 * p + 1) (if m = 1 ∨ m = 2 then 30 else 0)
def saysF (q : Int → Int) (p : Int) : Int := q (7 * p + 2) + (if q (7 * p + 0) = 1 then - q (7 * p + 1) else if q (7 * p + 0) = 2 then q (7 * p + 1) else 0)
theorem beQ_be (q : Int → Int) (p m m2 : Int) : beQ (beQ q p m) p m2 = beQ q p m2 := by
  funext j; unfold beQ upI
  by_cases e1 : j = 7 * p + 1
  · rw [if_pos e1, if_pos e1]
  rw [if_neg e1, if_neg e1]
  by_cases e0 : j = 7 * p + 0
  · rw [if_pos e0, if_neg e1, if_pos e0]
  rw [if_neg e0, if_neg e0, if_neg e1, if_neg e0]
theorem beQ_ok {q : Int → Int} {p m : Int} (P : PplOK q) (hm : 0 ≤ m ∧ m ≤ 3) : PplOK (beQ q p m) := by
  have keep : ∀ j : Int, j ≠ 7 * p + 0 → j ≠ 7 * p + 1 → beQ q p m j = q j := fun j h0 h1 => by unfold beQ upI; rw [if_neg h1, if_neg h0]
  refine ⟨fun s h1 h2 => ?_, fun s h1 h2 => ?_, fun s h1 h2 => ?_, fun s h1 h2 => ?_, fun s h1 h2 => ?_, fun s h1 h2 => ?_, fun s h1 h2 => ?_⟩
  · have := P.manner s h1 h2
    unfold beQ upI; rw [if_neg (by omega)]; split <;> omega
  · have := P.bys s h1 h2
    unfold beQ upI
    split
    · split <;> omega
    · rw [if_neg (by omega)]; exact this
  · rw [keep _ (by omega) (by omega)]; exact P.comes s h1 h2
  · rw [keep _ (by omega) (by omega)]; exact P.spot s h1 h2
  · rw [keep _ (by omega) (by omega)]; exact P.patience s h1 h2
  · rw [keep _ (by omega) (by omega)]; exact P.looks s h1 h2
  · rw [keep _ (by omega) (by omega)]; exact P.shelf s h1 h2
theorem beQ_cg {q q' : Int → Int} {p m : Int} (h : eqQ q q') : eqQ (beQ q p m) (beQ q' p m) := by
  intro j h1 h2
  unfold beQ upI
  rw [h j h1 h2]
theorem saysF_cg {q q' : Int → Int} {p : Int} (h : eqQ q q') (hp : 0 ≤ p ∧ p < 10) : saysF q p = saysF q' p := by
  unfold saysF
  rw [h (7 * p + 2) (by omega) (by omega), h (7 * p + 1) (by omega) (by omega), h (7 * p + 0) (by omega) (by omega)]
theorem saysF_b {q : Int → Int} {p : Int} (P : PplOK q) (hp : 0 ≤ p ∧ p < 10) : -99 ≤ saysF q p ∧ saysF q p ≤ 699 := by
  have h1 := P.comes p hp.1 hp.2
  have h2 := P.bys p hp.1 hp.2
  unfold saysF
  split
  · omega
  · split <;> omega
def bmV (r st : Int → Int) (p : Int) (k : Nat) : Int := wihF (beQ (ppl r) p k) (evF r (crw r) (beQ (ppl r) p k) (r 4).toNat (r 2) (upI st (12 + 8 * p + 3) (saysF (beQ (ppl r) p k) p))) (r 2) p
section EV
variable {h : Hp} {M : Int} {F : Nat → Int} {A : Int → Int → Int} {e : Int → Int} {Q : Int → Hp → Prop} {Qv : Hp → Prop} {B : Int}
theorem s_beOf {p m : Int} (T : TT h M) (hp : 0 ≤ p ∧ p < 10) (hq : Qv (blk h M 15 F (upR A 10 (beQ (A 10) p m)))) : g_X4_beOf M p m Qv (blk h M 15 F A) := by
  have fin : ∀ v : Int, v = (if m = 1 ∨ m = 2 then 30 else 0) → g_X4_beOf_b38 M p m Qv (M + 10) (7 * p + 1) v (blk h M 15 F (upR A 10 (upI (A 10) (7 * p + 0) m))) := by
    intro v hv
    unfold g_X4_beOf_b38
    refine ⟨T.t10.1, ⟨by omega, by show 7 * p + 1 < hL h (M + 10); rw [T.t10.2]; omega⟩, ?_⟩
    rintro m38 rfl
    rw [tws_10, upR_up, upR_eq, hv]
    exact hq
  unfold g_X4_beOf g_X4_beOf_b32
  refine ⟨(by first | omega | (unfold i32; omega)), (by first | omega | (unfold i32; omega)), (by first | omega | (unfold i32; omega)), ?_⟩
  rintro m11 rfl
  rw [tws_10]
  refine ⟨(by first | omega | (unfold i32; omega)), (by first | omega | (unfold i32; omega)), fun c => fin 30 (by rw [if_pos (Or.inl c)]), fun c => ⟨fun c2 => fin 0 (by rw [if_neg (by omega)]), fun c2 => fin 30 (by rw [if_pos (Or.inr c2)])⟩⟩
theorem s_saysFirst {p : Int} (P : PplOK (A 10)) (hp : 0 ≤ p ∧ p < 10) (hq : Q (saysF (A 10) p) (blk h M 15 F A)) : g_X4_saysFirst M p Q (blk h M 15 F A) := by
  have h1 := P.comes p hp.1 hp.2
  have h2 := P.bys p hp.1 hp.2
  unfold saysF at hq
  unfold g_X4_saysFirst g_X4_saysFirst_b43
  refine s_man hp ⟨by omega, by omega⟩ (fun _ => s_man hp ⟨by omega, by omega⟩ (fun _ => ⟨fun c => ⟨fun c2 => ⟨(by first | omega | (unfold i32; omega)), ?_⟩, fun c2 => s_man hp ⟨by omega, by omega⟩ (fun _ => ⟨(by first | omega | (unfold i32; omega)), ?_⟩)⟩, fun c => s_man hp ⟨by omega, by omega⟩ (fun _ => ⟨(by first | omega | (unfold i32; omega)), (by first | omega | (unfold i32; omega)), ?_⟩)⟩))
  · rw [if_neg c, if_neg c2] at hq; exact hq
  · rw [if_neg c, if_pos c2] at hq; exact hq
  · rw [if_pos c] at hq; exact hq
theorem p_bestManner {p : Int} (T : TT h M) (hB : 10000 ≤ B ∧ B ≤ 100000) (S : Scr F A) (hH : HR B F A)
    (no : ¬ isP F A p → ∀ F' A', Post F A 1 F' A' → Q (-1) (blk h M 15 F' A'))
    (no5 : isP F A p → A 5 (12 + 8 * p + 0) ≠ 0 → ∀ F' A', Post F A 5 F' A' → Q (-1) (blk h M 15 F' A'))
    (yes : isP F A p → A 5 (12 + 8 * p + 0) = 0 → ∀ F' A', Post F A 0 F' A' → Q (minN (bmV (A 3) (A 5) p) (-2) 1000000 4).1 (blk h M 15 F' A')) : g_X4_bestManner M p Q (blk h M 15 F A) := by
  unfold g_X4_bestManner
  refine t_good (fun _ => t_isPerson (fun z => (hH z).1) (fun _ => ⟨fun c1 => ?_, fun c1 => t_no (fun _ => no (zero_of c1) _ _ (post_no S))⟩))
  have c1 : isP F A p := one_of c1
  obtain ⟨HO, R⟩ := hH c1.1
  have hn := HO.pm
  have hbl := HO.bell
  have hcm := HO.sm
  have hp : 0 ≤ p ∧ p < 10 := ⟨c1.2.1, by omega⟩
  refine s_hasCome hp (fun _ => ⟨fun c3 => ?_, fun c3 => t_no (fun _ => no5 c1 (one_of c3) _ _ (post_no S))⟩)
  have c3 : A 5 (12 + 8 * p + 0) = 0 := Classical.byContradiction (zero_of c3)
  refine t_asTold T HO S.1 (fun c q hc hqq _ => ?_)
  rintro m43 rfl
  rw [tw_3, blk_setF, show upR (upR A 9 c) 10 q 3 = A 3 from rfl]
  generalize hF9 : upN (upN (gF F) 25 (A 3 4)) 26 (A 3 2) = F9
  generalize hA9 : upR (upR A 9 c) 10 q = A9
  have x25 : F9 25 = A 3 4 := by rw [← hF9]; rfl
  have x26 : F9 26 = A 3 2 := by rw [← hF9]; rfl
  have xf : ∀ j : Nat, j ≠ 0 → j ≠ 11 → j ≠ 25 → j ≠ 26 → F9 j = F j := fun j h0 h1 h2 h3 => by rw [← hF9, upN_ne h3, upN_ne h2, gF_o h0 h1]
  have xf0 : F9 0 = 0 := by rw [← hF9]; rfl
  have xf1 : F9 11 = 0 := by rw [← hF9]; rfl
  have y5 : A9 5 = A 5 := by rw [← hA9]; rfl
  refine ⟨(by first | omega | (unfold i32; omega)), (by first | omega | (unfold i32; omega)), (by first | omega | (unfold i32; omega)), ?_⟩
  rintro y55 rfl
  refine ⟨(by first | omega | (unfold i32; omega)), ?_⟩
  rintro y62 rfl
  rw [tw_5, y5]
  refine Lp5_ind (k := 4) (fun m a b d g i h' => ∃ (j : Nat) (A' : Int → Int → Int) (x : Int), j ≤ 4 ∧ m = 4 - j ∧ i = j ∧ a = 12 + 8 * p + 3 ∧ b = A 5 (12 + 8 * p + 3) ∧ d = (minN (bmV (A 3) (A 5) p) (-2) 1000000 j).1 ∧ g = (minN (bmV (A 3) (A 5) p) (-2) 1000000 j).2 ∧ h' = blk h M 15 F9 A' ∧
    A' 1 = A 1 ∧ A' 3 = A 3 ∧ A' 5 = upI (A 5) (12 + 8 * p + 3) x ∧ A' 7 = A 7 ∧ A' 8 = A 8 ∧ A' 9 = c ∧ (∀ m2 : Int, beQ (A' 10) p m2 = beQ q p m2) ∧ ∀ j : Int, j < 0 ∨ 108 ≤ j → A' 6 j = 0) ?_ ⟨0, A9, A 5 (12 + 8 * p + 3), by omega, by omega, rfl, rfl, rfl, rfl, rfl, rfl, by rw [← hA9]; rfl, by rw [← hA9]; rfl, by rw [y5, upI_id], by rw [← hA9]; rfl, by rw [← hA9]; rfl, by rw [← hA9]; rfl, by rw [← hA9]; exact fun _ => rfl, by rw [← hA9]; exact S.2.1⟩
  rintro m a b d g i h' ⟨j, A', x, hj, rfl, rfl, rfl, rfl, rfl, rfl, rfl, a1, a3, a5, a7, a8, a9, a10, a6⟩ K hK
  unfold g_X4_bestManner_L75
  refine ⟨fun c4 => ?_, fun c4 => s_beOf T hp (fun _ => ?_)⟩
  · unfold g_X4_bestManner_b130
    refine ⟨(by first | omega | (unfold i32; omega)), ?_⟩
    rintro m131 rfl
    rw [tws_5, a5, upI_up, upI_id]
    have ej : j = 4 := by omega
    rw [ej]
    exact yes c1 c3 F9 _ ⟨⟨⟨a1, a3, upR_eq, a7, a8⟩, fun j h0 h1 h2 h3 _ _ _ => xf j h0 h1 h2 h3, by rw [upR_ne (by omega), a9]; exact hc.1, a6, by rw [x25]; omega, by rw [x25]; omega⟩, xf0, xf1⟩
  · rw [a10]
    have PQ : PplOK (beQ q p j) := beQ_ok hqq.1 ⟨by omega, by omega⟩
    refine s_saysFirst (by rw [upR_eq]; exact PQ) hp (fun _ => ⟨(by first | omega | (unfold i32; omega)), ?_⟩)
    rintro m98 rfl
    rw [tws_5, upR_ne (show (5 : Int) ≠ 10 by omega), a5, upI_up, upR_eq]
    have sb := saysF_b PQ hp
    have RU : RowOK B (upI (A 5) (12 + 8 * p + 3) (saysF (beQ q p j) p)) := R.up hp ⟨by omega, by omega⟩ (by omega)
    have RE := (evF_ok (q := beQ q p j) (cm := (A 3 4).toNat) (bell := A 3 2) hB.1 HO hc.1 (by omega) ⟨by omega, by omega⟩ RU).1
    have ec := beQ_cg (p := p) (m := (j : Int)) (eqQ_as hqq)
    have ev : evF (A 3) c (beQ q p j) (A 3 4).toNat (A 3 2) (upI (A 5) (12 + 8 * p + 3) (saysF (beQ q p j) p)) = evF (A 3) (crw (A 3)) (beQ (ppl (A 3)) p j) (A 3 4).toNat (A 3 2) (upI (A 5) (12 + 8 * p + 3) (saysF (beQ (ppl (A 3)) p j) p)) := by
      rw [saysF_cg ec hp]
      exact evF_cg (by omega) (eqC_as hc (by omega)) ec
    generalize hA2 : upR (upR A' 10 (beQ q p j)) 5 (upI (A 5) (12 + 8 * p + 3) (saysF (beQ q p j) p)) = A2
    have b1 : A2 1 = A 1 := by rw [← hA2]; exact a1
    have b3 : A2 3 = A 3 := by rw [← hA2]; exact a3
    have b5 : A2 5 = upI (A 5) (12 + 8 * p + 3) (saysF (beQ q p j) p) := by rw [← hA2]; rfl
    have b7 : A2 7 = A 7 := by rw [← hA2]; exact a7
    have b8 : A2 8 = A 8 := by rw [← hA2]; exact a8
    have b9 : A2 9 = c := by rw [← hA2]; exact a9
    have b10 : A2 10 = beQ q p j := by rw [← hA2]; rfl
    refine s_waitIfHas T hB (by rw [b3]; exact HO) (by rw [b9]; exact hc.1) (by rw [b10]; exact PQ) (by rw [x25]; omega) (by rw [x26]; omega) (by rw [b5]; exact RU) (by rw [← hA2]; exact a6) hp (fun _ => ?_)
    rw [b3, b5, b9, b10, x25, x26]
    have ve : wihF (beQ q p j) (evF (A 3) c (beQ q p j) (A 3 4).toNat (A 3 2) (upI (A 5) (12 + 8 * p + 3) (saysF (beQ q p j) p))) (A 3 2) p = bmV (A 3) (A 5) p j := by
      unfold bmV wihF
      rw [waitF_cg ec hp, ev]
    rw [ve]
    unfold g_X4_bestManner_b124
    have nx : ∀ (d2 g2 : Int), d2 = (minN (bmV (A 3) (A 5) p) (-2) 1000000 (j + 1)).1 → g2 = (minN (bmV (A 3) (A 5) p) (-2) 1000000 (j + 1)).2 → ∀ y : Int, y = (j : Int) + 1 → K (12 + 8 * p + 3) (A 5 (12 + 8 * p + 3)) d2 g2 y (blk h M 15 F9 (upR A2 6 (evF (A 3) c (beQ q p j) (A 3 4).toNat (A 3 2) (upI (A 5) (12 + 8 * p + 3) (saysF (beQ q p j) p))))) := fun d2 g2 e1 e2 y ey =>
      hK (4 - (j + 1)) _ _ _ _ _ _ (by omega) ⟨j + 1, _, _, by omega, rfl, by omega, rfl, rfl, e1, e2, rfl, b1, b3, b5, b7, b8, b9, fun m2 => by rw [upR_ne (by omega), b10]; exact beQ_be q p j m2, fun t ht => by rw [upR_eq]; exact RE.out t ht⟩
    refine ⟨fun c5 => ⟨(by first | omega | (unfold i32; omega)), nx _ _ ?_ ?_⟩, fun c5 => ⟨(by first | omega | (unfold i32; omega)), nx _ _ ?_ ?_⟩⟩
    · simp only [minN]; rw [if_pos c5]
    · simp only [minN]; rw [if_pos c5]
    · simp only [minN]; rw [if_neg (by omega)]
    · simp only [minN]; rw [if_neg (by omega)]
end EV
