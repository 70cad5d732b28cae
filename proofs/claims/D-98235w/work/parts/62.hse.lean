/-! LAYER 2: the component's lists, its house as told -/
/-- below an address nothing has changed -/
def Lo (hb : Int) (h h' : Hp) : Prop := ∀ a : Int, a < hb → hT h' a = hT h a ∧ hL h' a = hL h a ∧ hF h' a = hF h a ∧ hA h' a = hA h a
theorem Lo.rf {hb : Int} {h : Hp} : Lo hb h h := fun _ _ => ⟨rfl, rfl, rfl, rfl⟩
theorem Lo.tr {hb : Int} {h1 h2 h3 : Hp} (a : Lo hb h1 h2) (b : Lo hb h2 h3) : Lo hb h1 h3 := fun x hx => ⟨(b x hx).1.trans (a x hx).1, (b x hx).2.1.trans (a x hx).2.1, (b x hx).2.2.1.trans (a x hx).2.2.1, (b x hx).2.2.2.trans (a x hx).2.2.2⟩
theorem Lo.le {hb hc : Int} {h h' : Hp} (H : Lo hb h h') (h1 : hc ≤ hb) : Lo hc h h' := fun a ha => H a (by omega)
theorem Lo.blk {hb b n : Int} {h : Hp} {F : Nat → Int} {A : Int → Int → Int} (hb1 : hb ≤ b) : Lo hb h (blk h b n F A) := fun a ha => ⟨rfl, rfl, funext (fun k => blk_Fo (by omega) k), funext (fun j => blk_Ao (Or.inl (by omega)) j)⟩
theorem Lo_blk2 {hb b n : Int} {h : Hp} {F F' : Nat → Int} {A A' : Int → Int → Int} (hb1 : hb ≤ b) : Lo hb (blk h b n F A) (blk h b n F' A') := fun a ha => ⟨rfl, rfl, funext (fun k => (blk_Fo (by omega) k).trans (blk_Fo (by omega) k).symm), funext (fun j => (blk_Ao (Or.inl (by omega)) j).trans (blk_Ao (Or.inl (by omega)) j).symm)⟩
theorem Lo.alloc {hb t len n : Int} {h : Hp} (h1 : hb ≤ hN h) : Lo hb h (alloc h t len n) := fun a ha => ⟨if_neg (by omega), if_neg (by omega), funext (fun k => if_neg (by omega)), funext (fun j => if_neg (by omega))⟩
theorem Lo.setF {hb a : Int} {k : Nat} {v : Int} {h : Hp} (h1 : hb ≤ a) : Lo hb h (setF h a k v) := fun x hx => ⟨rfl, rfl, funext (fun j => if_neg (fun z => by omega)), rfl⟩
theorem Lo.setA {hb a i v : Int} {h : Hp} (h1 : hb ≤ a) : Lo hb h (setA h a i v) := fun x hx => ⟨rfl, rfl, rfl, funext (fun j => if_neg (fun z => by omega))⟩
theorem Lo.putA {hb a : Int} {f : Int → Int} {h : Hp} (h1 : hb ≤ a) : Lo hb h (putA h a f) := fun x hx => ⟨rfl, rfl, rfl, if_neg (by omega)⟩
/-- a list's place: so many elements -/
def LsOK (h : Hp) (l n hb : Int) : Prop := hF h l 2 = n ∧ (0 < n → hT h (hF h l 1) = 5 ∧ n ≤ hL h (hF h l 1) ∧ hF h l 1 < hb)
def el (h : Hp) (l i : Int) : Int := hA h (hF h l 1) i
section L
variable {h : Hp} {l i : Int} {Q : Int → Hp → Prop}
theorem l_size (hq : Q (hF h l 2) h) : g_J2_size l Q h := hq
theorem l_get {n hb : Int} (H : LsOK h l n hb) (hi : 0 ≤ i ∧ i < n) (hq : Q (el h l i) h) : g_J2_get l i Q h := by
  obtain ⟨h1, h2⟩ := H
  obtain ⟨h3, h4, -⟩ := h2 (by omega)
  unfold g_J2_get g_J12_checkIndex g_J11_checkIndex g_J2_elementData
  exact ⟨fun c => absurd c (by omega), fun _ => ⟨fun _ _ _ => ⟨h3, ⟨hi.1, by omega⟩, fun _ => hq⟩, fun c => absurd c (by omega)⟩⟩
end L
def rtag (x : Int) : Int := if x = 0 then 28 else if x = 1 then 27 else if x = 2 then 29 else if x = 3 then 30 else 31
theorem rtag_b (x : Int) : 27 ≤ rtag x ∧ rtag x ≤ 31 := by
  unfold rtag
  repeat' split
  all_goals omega
abbrev DrkAt (h : Hp) (a : Int) (r : Int → Int) (d hb : Int) : Prop := hT h a = 15 ∧ a < hb ∧ hF h a 1 = r (8 + 3 * d) ∧ hF h a 2 = r (8 + 3 * d + 1) ∧ hF h a 3 = r (8 + 3 * d + 2)
abbrev StfAt (h : Hp) (a : Int) (r : Int → Int) (s hb : Int) : Prop := hT h a = 16 ∧ a < hb ∧ hF h a 1 < hb ∧ hT h (hF h a 1) = rtag (r (23 + (6 * s + 0))) ∧ hF h a 2 = r (23 + (6 * s + 1)) ∧ hF h a 3 = r (23 + (6 * s + 2)) ∧ hF h a 4 = r (23 + (6 * s + 3)) ∧ hF h a 5 = r (23 + (6 * s + 4)) ∧ hF h a 6 = r (23 + (6 * s + 5))
abbrev ManAt (h : Hp) (m k by' hb : Int) : Prop := hT h m = 23 + k ∧ hF h m 0 = by' ∧ m < hb
abbrev PerAt (h : Hp) (a : Int) (r : Int → Int) (p hb : Int) : Prop := Lay_X17 h a ∧ a + 1 < hb ∧ hF h a 3 = r (41 + (7 * p + 2)) ∧ hF h a 4 = r (41 + (7 * p + 3)) ∧ hF h a 5 = r (41 + (7 * p + 4)) ∧ hF h a 6 = r (41 + (7 * p + 5)) ∧ hF h a 7 = (if r (41 + (7 * p + 6)) = 0 then -2 else r (41 + (7 * p + 6)) - 1) ∧ ManAt h (hF h a 1) (r (41 + (7 * p + 0))) (r (41 + (7 * p + 1))) hb ∧ ∀ d : Int, 0 ≤ d → d < 5 → hA h (a + 1) d = r (111 + 5 * p + d)
abbrev TelAt (h : Hp) (a : Int) (r : Int → Int) (k hb : Int) : Prop := hT h a = 17 ∧ a < hb ∧ hF h a 0 = r (161 + 3 * k + 0) ∧ hF h a 1 = r (161 + 3 * k + 1) ∧ hF h a 2 = r (161 + 3 * k + 2)
def HouseAt (h : Hp) (o : Int) (r : Int → Int) (hb : Int) : Prop := (Lay_X7 h o) ∧ (o + 4 < hb) ∧ (hF h o 0 = r 1) ∧ (hF h o 1 = r 2) ∧ (hF h o 2 = r 6) ∧ (LsOK h (o + 1) (r 3) hb) ∧ (LsOK h (o + 2) (r 4) hb) ∧ (LsOK h (o + 3) (r 5) hb) ∧ (LsOK h (o + 4) (r 7) hb) ∧ (∀ d : Int, 0 ≤ d → d < r 3 → DrkAt h (el h (o + 1) d) r d hb) ∧ (∀ s : Int, 0 ≤ s → s < r 4 → StfAt h (el h (o + 2) s) r s hb) ∧ (∀ p : Int, 0 ≤ p → p < r 5 → PerAt h (el h (o + 3) p) r p hb) ∧ (∀ k : Int, 0 ≤ k → k < r 7 → TelAt h (el h (o + 4) k) r k hb)
theorem HouseAt.lay {h : Hp} {o : Int} {r : Int → Int} {hb : Int} (H : HouseAt h o r hb) : Lay_X7 h o := H.1
theorem HouseAt.low {h : Hp} {o : Int} {r : Int → Int} {hb : Int} (H : HouseAt h o r hb) : o + 4 < hb := H.2.1
theorem HouseAt.long {h : Hp} {o : Int} {r : Int → Int} {hb : Int} (H : HouseAt h o r hb) : hF h o 0 = r 1 := H.2.2.1
theorem HouseAt.bell {h : Hp} {o : Int} {r : Int → Int} {hb : Int} (H : HouseAt h o r hb) : hF h o 1 = r 2 := H.2.2.2.1
theorem HouseAt.shel {h : Hp} {o : Int} {r : Int → Int} {hb : Int} (H : HouseAt h o r hb) : hF h o 2 = r 6 := H.2.2.2.2.1
theorem HouseAt.ld {h : Hp} {o : Int} {r : Int → Int} {hb : Int} (H : HouseAt h o r hb) : LsOK h (o + 1) (r 3) hb := H.2.2.2.2.2.1
theorem HouseAt.ls {h : Hp} {o : Int} {r : Int → Int} {hb : Int} (H : HouseAt h o r hb) : LsOK h (o + 2) (r 4) hb := H.2.2.2.2.2.2.1
theorem HouseAt.lp {h : Hp} {o : Int} {r : Int → Int} {hb : Int} (H : HouseAt h o r hb) : LsOK h (o + 3) (r 5) hb := H.2.2.2.2.2.2.2.1
theorem HouseAt.lt {h : Hp} {o : Int} {r : Int → Int} {hb : Int} (H : HouseAt h o r hb) : LsOK h (o + 4) (r 7) hb := H.2.2.2.2.2.2.2.2.1
theorem HouseAt.drk {h : Hp} {o : Int} {r : Int → Int} {hb : Int} (H : HouseAt h o r hb) : ∀ d : Int, 0 ≤ d → d < r 3 → DrkAt h (el h (o + 1) d) r d hb := H.2.2.2.2.2.2.2.2.2.1
theorem HouseAt.stf {h : Hp} {o : Int} {r : Int → Int} {hb : Int} (H : HouseAt h o r hb) : ∀ s : Int, 0 ≤ s → s < r 4 → StfAt h (el h (o + 2) s) r s hb := H.2.2.2.2.2.2.2.2.2.2.1
theorem HouseAt.ppl {h : Hp} {o : Int} {r : Int → Int} {hb : Int} (H : HouseAt h o r hb) : ∀ p : Int, 0 ≤ p → p < r 5 → PerAt h (el h (o + 3) p) r p hb := H.2.2.2.2.2.2.2.2.2.2.2.1
theorem HouseAt.tel {h : Hp} {o : Int} {r : Int → Int} {hb : Int} (H : HouseAt h o r hb) : ∀ k : Int, 0 ≤ k → k < r 7 → TelAt h (el h (o + 4) k) r k hb := H.2.2.2.2.2.2.2.2.2.2.2.2
theorem LsOK.lo {h h' : Hp} {l n hb : Int} (H : LsOK h l n hb) (L : Lo hb h h') (hl : l < hb) : LsOK h' l n hb := by
  obtain ⟨h1, h2⟩ := H
  have e1 := (L l hl).2.2.1
  refine ⟨by rw [e1]; exact h1, fun hn => ?_⟩
  obtain ⟨h3, h4, h5⟩ := h2 hn
  rw [e1]
  have e2 := L _ h5
  exact ⟨by rw [e2.1]; exact h3, by rw [e2.2.1]; exact h4, h5⟩
theorem el_lo {h h' : Hp} {l n hb i : Int} (H : LsOK h l n hb) (L : Lo hb h h') (hl : l < hb) (hn : 0 < n) : el h' l i = el h l i := by
  unfold el
  rw [(L l hl).2.2.1, (L _ (H.2 hn).2.2).2.2.2]
theorem Lay_X17.lo {h h' : Hp} {a hb : Int} (H : Lay_X17 h a) (L : Lo hb h h') (ha : a + 1 < hb) : Lay_X17 h' a := by
  obtain ⟨h1, h2, h3, h4, h5⟩ := H
  have e1 := L a (by omega)
  have e2 := L (a + 1) ha
  exact ⟨h1, by rw [e1.1]; exact h2, by rw [e1.2.2.1]; exact h3, by rw [e2.1]; exact h4, by rw [e2.2.1]; exact h5⟩
theorem Lay_X7.lo {h h' : Hp} {a hb : Int} (H : Lay_X7 h a) (L : Lo hb h h') (ha : a + 4 < hb) : Lay_X7 h' a := by
  obtain ⟨h1, h2, ⟨a3, b3⟩, ⟨a4, b4⟩, ⟨a5, b5⟩, a6, b6⟩ := H
  have e0 := L a (by omega)
  exact ⟨h1, by rw [e0.1]; exact h2, ⟨by rw [e0.2.2.1]; exact a3, by rw [(L (a + 1) (by omega)).1]; exact b3⟩, ⟨by rw [e0.2.2.1]; exact a4, by rw [(L (a + 2) (by omega)).1]; exact b4⟩, ⟨by rw [e0.2.2.1]; exact a5, by rw [(L (a + 3) (by omega)).1]; exact b5⟩, by rw [e0.2.2.1]; exact a6, by rw [(L (a + 4) (by omega)).1]; exact b6⟩
theorem PerAt.lo {h h' : Hp} {a p hb : Int} {r : Int → Int} (H : PerAt h a r p hb) (L : Lo hb h h') : PerAt h' a r p hb := by
  obtain ⟨h1, h2, h3, h4, h5, h6, h7, ⟨m1, m2, m3⟩, h9⟩ := H
  have e0 := (L a (by omega)).2.2.1
  refine ⟨h1.lo L h2, h2, by rw [e0]; exact h3, by rw [e0]; exact h4, by rw [e0]; exact h5, by rw [e0]; exact h6, by rw [e0]; exact h7, ?_, fun d d1 d2 => by rw [(L (a + 1) h2).2.2.2]; exact h9 d d1 d2⟩
  rw [e0]
  exact ⟨by rw [(L _ m3).1]; exact m1, by rw [(L _ m3).2.2.1]; exact m2, m3⟩
theorem HouseAt.lo {h h' : Hp} {o hb : Int} {r : Int → Int} (H : HouseAt h o r hb) (L : Lo hb h h') : HouseAt h' o r hb := by
  have hl := H.low
  have e0 := (L o (by omega)).2.2.1
  refine ⟨H.lay.lo L hl, hl, by rw [e0]; exact H.long, by rw [e0]; exact H.bell, by rw [e0]; exact H.shel, H.ld.lo L (by omega), H.ls.lo L (by omega), H.lp.lo L (by omega), H.lt.lo L hl, fun d d1 d2 => ?_, fun s d1 d2 => ?_, fun p d1 d2 => ?_, fun k d1 d2 => ?_⟩
  · obtain ⟨a1, a2, a3, a4, a5⟩ := H.drk d d1 d2
    rw [el_lo H.ld L (by omega) (by omega)]
    have e := L _ a2
    exact ⟨by rw [e.1]; exact a1, a2, by rw [e.2.2.1]; exact a3, by rw [e.2.2.1]; exact a4, by rw [e.2.2.1]; exact a5⟩
  · obtain ⟨a1, a2, a3, a4, a5, a6, a7, a8, a9⟩ := H.stf s d1 d2
    rw [el_lo H.ls L (by omega) (by omega)]
    have e := L _ a2
    exact ⟨by rw [e.1]; exact a1, a2, by rw [e.2.2.1]; exact a3, by rw [e.2.2.1, (L _ a3).1]; exact a4, by rw [e.2.2.1]; exact a5, by rw [e.2.2.1]; exact a6, by rw [e.2.2.1]; exact a7, by rw [e.2.2.1]; exact a8, by rw [e.2.2.1]; exact a9⟩
  · rw [el_lo H.lp L (by omega) (by omega)]
    exact (H.ppl p d1 d2).lo L
  · obtain ⟨a1, a2, a3, a4, a5⟩ := H.tel k d1 d2
    rw [el_lo H.lt L (by omega) (by omega)]
    have e := L _ a2
    exact ⟨by rw [e.1]; exact a1, a2, by rw [e.2.2.1]; exact a3, by rw [e.2.2.1]; exact a4, by rw [e.2.2.1]; exact a5⟩
theorem sumN_z {f : Nat → Int} {m : Nat} : ∀ n : Nat, m ≤ n → (∀ j, m ≤ j → j < n → f j = 0) → sumN f n = sumN f m
  | 0, h, _ => by rw [show m = 0 by omega]
  | n + 1, h, hz => by
    by_cases e : m = n + 1
    · rw [e]
    · simp only [sumN]
      rw [sumN_z n (by omega) (fun j h1 h2 => hz j h1 (by omega)), hz n (by omega) (by omega)]
      omega
section H
variable {h : Hp} {o hb : Int} {r : Int → Int} {Q : Int → Hp → Prop}
theorem HouseAt.per (H : HouseAt h o r hb) {p : Int} (hp : 0 ≤ p ∧ p < r 5) (hq : PerAt h (el h (o + 3) p) r p hb → Q (el h (o + 3) p) h) : g_J2_get (o + 3) p Q h := l_get H.lp hp (hq (H.ppl p hp.1 hp.2))
theorem HouseAt.drg (H : HouseAt h o r hb) {d : Int} (hp : 0 ≤ d ∧ d < r 3) (hq : DrkAt h (el h (o + 1) d) r d hb → Q (el h (o + 1) d) h) : g_J2_get (o + 1) d Q h := l_get H.ld hp (hq (H.drk d hp.1 hp.2))
abbrev ahd (r : Int → Int) (p x : Int) : Prop := r (41 + (7 * p + 2)) < r (41 + (7 * x + 2)) ∨ (r (41 + (7 * p + 2)) = r (41 + (7 * x + 2)) ∧ p < x)
theorem hs_isAhead (H : HouseAt h o r hb) {p x : Int} (hp : 0 ≤ p ∧ p < r 5) (hx : 0 ≤ x ∧ x < r 5) (hq : Q (if ahd r p x then 1 else 0) h) : g_X7_isAhead o p x Q h := by
  unfold g_X7_isAhead
  refine H.per hp (fun P1 _ => ⟨P1.1, H.per hx (fun P2 _ => ⟨P2.1, ?_⟩)⟩)
  unfold g_X17_isAhead g_X17_isAhead_b27 g_X17_isAhead_b31 g_X17_isAhead_b32
  have e1 := P1.2.2.1
  have e2 := P2.2.2.1
  refine ⟨P2.1, fun c => ⟨Or.inr rfl, fun _ => ⟨Or.inr rfl, ?_⟩⟩, fun c => ⟨fun c2 => ⟨Or.inl rfl, fun _ => ⟨Or.inl rfl, ?_⟩⟩, fun c2 => ⟨fun c3 => ⟨Or.inl rfl, fun _ => ⟨Or.inl rfl, ?_⟩⟩, fun c3 => ⟨Or.inr rfl, fun _ => ⟨Or.inr rfl, ?_⟩⟩⟩⟩⟩
  · rw [if_pos (by omega)] at hq; exact hq
  · rw [if_neg (by omega)] at hq; exact hq
  · rw [if_neg (by omega)] at hq; exact hq
  · rw [if_pos (by omega)] at hq; exact hq
theorem hs_costs (HO : HouseOK r) (H : HouseAt h o r hb) {p : Int} (hp : 0 ≤ p ∧ p < r 5) (hq : Q (costF r p) h) : g_X7_costs o p Q h := by
  have hn := HO.pm
  have hd := HO.dm
  have bd : ∀ d : Int, 0 ≤ d → d < 5 → 0 ≤ r (111 + 5 * p + d) * r (8 + 3 * d + 2) ∧ r (111 + 5 * p + d) * r (8 + 3 * d + 2) ≤ 891 := fun d h1 h2 => mulB (HO.wants p d hp.1 (by omega) h1 h2) (HO.costs d h1 h2)
  have e5 : costF r p = sumN (fun d => r (111 + 5 * p + d) * r (8 + 3 * d + 2)) (r 3).toNat := by
    unfold costF
    exact sumN_z 5 (by omega) (fun j h1 h2 => by
      (try dsimp only)
      rw [HO.wants0 p j hp.1 (by omega) (by omega) (by omega), Int.zero_mul])
  rw [e5] at hq
  unfold g_X7_costs
  refine Lp2_for (r 3).toNat 0 (sumN (fun d => r (111 + 5 * p + d) * r (8 + 3 * d + 2))) (fun _ => h) (fun K j hj hK => ?_) (fun K => ?_)
  · have h1 := sumN_b (f := fun d => r (111 + 5 * p + d) * r (8 + 3 * d + 2)) (B := 891) j (fun i hi => bd i (by omega) (by omega))
    have h2 := bd j (by omega) (by omega)
    have e3 := H.ld.1
    rw [Int.zero_add]
    unfold g_X7_costs_L4
    refine l_size (fun _ => ⟨fun c => absurd c (by omega), fun c => H.drg ⟨by omega, by omega⟩ (fun D _ => ⟨D.1, H.per hp (fun P _ => ⟨P.1, (by first | omega | (unfold i32; omega)), ?_⟩)⟩)⟩)
    rw [D.2.2.2.2, P.2.2.2.2.2.2.2.2 j (by omega) (by omega), Int.mul_comm]
    refine ⟨(by first | omega | (unfold i32; omega)), (by first | omega | (unfold i32; omega)), ?_⟩
    rintro y rfl
    exact ⟨(by first | omega | (unfold i32; omega)), fun y ey => hK _ _ _ rfl (by omega) rfl⟩
  · have e3 := H.ld.1
    unfold g_X7_costs_L4 g_X7_costs_b55
    exact l_size (fun _ => ⟨fun _ => hq, fun c => absurd c (by omega)⟩)
theorem hs_time (HO : HouseOK r) (H : HouseAt h o r hb) {p last : Int} (hp : 0 ≤ p ∧ p < r 5) (hl : -1 ≤ last ∧ last < r 5) (hq : Q (tbF r last p) h) : g_X7_time o p last Q h := by
  have hn := HO.pm
  have hd := HO.dm
  have e5 : tbF r last p = sumN (fun d => tbT r last p d) (r 3).toNat := by
    unfold tbF
    exact sumN_z 5 (by omega) (fun j h1 h2 => by
      (try dsimp only)
      unfold tbT
      rw [if_pos (HO.wants0 p j hp.1 (by omega) (by omega) (by omega))])
  rw [e5] at hq
  unfold g_X7_time
  refine Lp2_for (r 3).toNat 0 (sumN (fun d => tbT r last p d)) (fun _ => h) (fun K j hj hK => ?_) (fun K => ?_)
  · have h1 := sumN_b (f := fun d => tbT r last p d) (B := 900) j (fun i hi => tbT_b HO ⟨hp.1, by omega⟩ ⟨by omega, by omega⟩)
    have h2 := tbT_b HO (last := last) (p := p) (d := (j : Int)) ⟨hp.1, by omega⟩ ⟨by omega, by omega⟩
    have e3 := H.ld.1
    have b1 := HO.takes j (by omega) (by omega)
    have b2 := HO.thn j (by omega) (by omega)
    have b3 := HO.wants p j hp.1 (by omega) (by omega) (by omega)
    have b4 := mulB (a := r (8 + 3 * (j : Int) + 1)) (b := r (111 + 5 * p + j) - 1 + 1) ⟨b2.1, (show r (8 + 3 * (j : Int) + 1) ≤ 90 by omega)⟩ (⟨by omega, by omega⟩ : 0 ≤ r (111 + 5 * p + j) - 1 + 1 ∧ r (111 + 5 * p + j) - 1 + 1 ≤ 9)
    rw [Int.mul_add, Int.mul_one] at b4
    have em : r (111 + 5 * p + j) * r (8 + 3 * (j : Int) + 1) = r (8 + 3 * (j : Int) + 1) * (r (111 + 5 * p + j) - 1) + r (8 + 3 * (j : Int) + 1) := by
      rw [Int.mul_sub, Int.mul_one, Int.mul_comm]; omega
    have b77 : ∀ v : Int, (v = 0 ∧ (last < 0 ∨ r (111 + 5 * last + j) = 0)) ∨ (v = 1 ∧ ¬ (last < 0 ∨ r (111 + 5 * last + j) = 0)) → g_X7_time_b77 o p last Q K j (sumN (fun d => tbT r last p d) j) (el h (o + 1) j) (r (111 + 5 * p + j)) v h := by
      intro v hv
      have D := H.drk j (by omega) (by omega)
      have fin : ∀ y : Int, y = tbT r last p j → (i32 (sumN (fun d => tbT r last p d) j + y)) ∧ (∀ y81 : Int, y81 = sumN (fun d => tbT r last p d) j + y → ((i32 ((j : Int) + 1)) ∧ (∀ y82 : Int, y82 = (j : Int) + 1 → (K y81 y82 h)))) := by
        intro y hy
        refine ⟨(by first | omega | (unfold i32; omega)), ?_⟩
        rintro y81 rfl
        exact ⟨(by first | omega | (unfold i32; omega)), fun z ez => hK _ _ _ (by rw [hy]; rfl) (by omega) rfl⟩
      unfold g_X7_time_b77 g_X9_time g_X9_time_b23 g_X9_time_b32
      rw [D.2.2.1, D.2.2.2.1]
      refine ⟨D.1, fun c => ⟨fun c2 => ?_, fun c2 => ?_⟩, fun c => fun _ => fin 0 (by unfold tbT; rw [if_pos c])⟩
      · rcases hv with hv | hv
        · refine ⟨(by first | omega | (unfold i32; omega)), (by first | omega | (unfold i32; omega)), (by first | omega | (unfold i32; omega)), fun _ => fin _ ?_⟩
          unfold tbT
          rw [if_neg c, if_pos hv.2, em]; omega
        · omega
      · rcases hv with hv | hv
        · omega
        · refine ⟨(by first | omega | (unfold i32; omega)), (by first | omega | (unfold i32; omega)), (by first | omega | (unfold i32; omega)), fun _ => fin _ ?_⟩
          unfold tbT
          rw [if_neg c, if_neg hv.2, em]; omega
    rw [Int.zero_add]
    unfold g_X7_time_L5 g_X7_time_b76
    refine l_size (fun _ => ⟨fun c => absurd c (by omega), fun c => H.drg ⟨by omega, by omega⟩ (fun D _ => ⟨D.1, H.per hp (fun P _ => ⟨P.1, (by first | omega | (unfold i32; omega)), ?_⟩)⟩)⟩)
    rw [P.2.2.2.2.2.2.2.2 j (by omega) (by omega)]
    refine ⟨fun c2 => b77 0 (Or.inl ⟨rfl, Or.inl (by omega)⟩), fun c2 => H.per (p := last) ⟨by omega, by omega⟩ (fun P2 _ => ⟨P2.1, (by first | omega | (unfold i32; omega)), ?_⟩)⟩
    have w2 := HO.wants last j (by omega) (by omega) (by omega) (by omega)
    rw [P2.2.2.2.2.2.2.2.2 j (by omega) (by omega)]
    exact ⟨fun c3 => b77 0 (Or.inl ⟨rfl, Or.inr (by omega)⟩), fun c3 => b77 1 (Or.inr ⟨rfl, by omega⟩)⟩
  · have e3 := H.ld.1
    unfold g_X7_time_L5 g_X7_time_b88
    exact l_size (fun _ => ⟨fun _ => hq, fun c => absurd c (by omega)⟩)
end H
