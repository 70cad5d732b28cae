/-! LAYER 2: the component's bar goes on by a second; its evening -/
section B
variable {h : Hp} {b o hb : Int} {r c q row : Int → Int} {cm : Nat} {F : Nat → Int} {A : Int → Int → Int} {Q : Int → Hp → Prop} {Qv : Hp → Prop} {B : Int}
/-- what one does, has, and his wait are written -/
theorem BR.ps (V : BR h b o r c q row cm F A) {row2 : Int → Int} {A' : Int → Int → Int} {p : Int} (hn : r 5 ≤ 10) (hp : 0 ≤ p ∧ p < r 5) (e : ∀ j : Int, j ≠ 12 + 8 * p + 0 → j ≠ 12 + 8 * p + 5 → j ≠ 12 + 8 * p + 7 → row2 j = row j)
    (pa : ∀ x : Int, 0 ≤ x → pasF q row2 x = pasF q row x) (pu : ∀ x : Int, 0 ≤ x → pusF q row2 (r 5).toNat x = pusF q row (r 5).toNat x)
    (a1 : A' 1 = upI (A 1) p (row2 (12 + 8 * p + 0))) (a8 : A' 8 = upI (A 8) p (row2 (12 + 8 * p + 5))) (a9 : ∀ x : Int, x ≠ p → A' 9 x = A 9 x)
    (w : 2 ≤ row2 (12 + 8 * p + 0) → row2 (12 + 8 * p + 0) ≤ 4 → A' 9 p = (if row2 (12 + 8 * p + 0) = 2 then row2 (12 + 8 * p + 4) else row2 (12 + 8 * p + 7)) - q (7 * p + 2))
    (oth : ∀ k : Int, k ≠ 1 → k ≠ 8 → k ≠ 9 → A' k = A k) : BR h b o r c q row2 cm F A' := by
  have ex : ∀ x i : Int, 0 ≤ i → i < 8 → x ≠ p → row2 (12 + 8 * x + i) = row (12 + 8 * x + i) := fun x i i1 i2 hx => e _ (by omega) (by omega) (by omega)
  have ey : ∀ x i : Int, 0 ≤ i → i < 8 → i ≠ 0 → i ≠ 5 → i ≠ 7 → row2 (12 + 8 * x + i) = row (12 + 8 * x + i) := fun x i i1 i2 h0 h5 h7 => e _ (by omega) (by omega) (by omega)
  have el : ∀ j : Int, j < 12 → row2 j = row j := fun j hj => e _ (by omega) (by omega) (by omega)
  have eh : ∀ j : Int, 92 ≤ j → row2 j = row j := fun j hj => e _ (by omega) (by omega) (by omega)
  refine ⟨V.lay, V.house, V.pn, V.sn, by rw [el 0 (by omega)]; exact V.now, by rw [el 1 (by omega)]; exact V.many, ?_, ?_, ?_, ?_, ?_, ?_, ?_, ?_, ?_, ?_, ?_, ?_, ?_, ?_, ?_, ?_, ?_, ?_, ?_, ?_, ?_, by rw [oth 13 (by omega) (by omega) (by omega)]; exact V.rg, by rw [oth 14 (by omega) (by omega) (by omega)]; exact V.rl⟩
  · intro x x1 x2
    rw [a1]
    by_cases z : x = p
    · rw [z, upI_eq]
    · rw [upI_ne z, ex x 0 (by omega) (by omega) z]; exact V.does x x1 x2
  · intro x x1 x2
    rw [oth 2 (by omega) (by omega) (by omega), ey x 1 (by omega) (by omega) (by omega) (by omega) (by omega)]; exact V.place x x1 x2
  · intro x x1 x2
    rw [oth 3 (by omega) (by omega) (by omega), ey x 2 (by omega) (by omega) (by omega) (by omega) (by omega)]; exact V.look x x1 x2
  · intro x x1 x2
    rw [oth 4 (by omega) (by omega) (by omega), ey x 3 (by omega) (by omega) (by omega) (by omega) (by omega)]; exact V.says x x1 x2
  · intro x x1 x2
    rw [oth 5 (by omega) (by omega) (by omega)]; exact V.shelf x x1 x2
  · intro x x1 x2
    rw [oth 6 (by omega) (by omega) (by omega), ey x 4 (by omega) (by omega) (by omega) (by omega) (by omega)]; exact V.begun x x1 x2
  · intro x x1 x2
    rw [oth 7 (by omega) (by omega) (by omega), ey x 6 (by omega) (by omega) (by omega) (by omega) (by omega)]; exact V.whom x x1 x2
  · intro x x1 x2
    rw [a8]
    by_cases z : x = p
    · rw [z, upI_eq]
    · rw [upI_ne z, ex x 5 (by omega) (by omega) z]; exact V.had x x1 x2
  · intro x x1 x2
    by_cases z : x = p
    · rw [z]; exact w
    · rw [a9 x z, ex x 0 (by omega) (by omega) z, ex x 4 (by omega) (by omega) z, ex x 7 (by omega) (by omega) z]; exact V.wait x x1 x2
  · intro x x1 x2
    rw [oth 10 (by omega) (by omega) (by omega), pa x x1]; exact V.pass x x1 x2
  · intro x x1 x2
    rw [oth 11 (by omega) (by omega) (by omega), pu x x1]; exact V.push x x1 x2
  · intro k k1 k2
    rw [oth 12 (by omega) (by omega) (by omega), el _ (by omega)]; exact V.served k k1 k2
  · intro x x1 x2
    rw [oth 13 (by omega) (by omega) (by omega)]; exact V.reg x x1 x2
  · intro x x1 x2
    rw [oth 14 (by omega) (by omega) (by omega)]; exact V.rule x x1 x2
  · intro x x1 x2
    rw [oth 15 (by omega) (by omega) (by omega), eh _ (by omega)]; exact V.stands x x1 x2
  · intro x x1 x2
    rw [oth 16 (by omega) (by omega) (by omega)]; exact V.frm x x1 x2
  · intro x x1 x2
    rw [oth 17 (by omega) (by omega) (by omega)]; exact V.til x x1 x2
  · intro x x1 x2
    rw [oth 18 (by omega) (by omega) (by omega)]; exact V.step x x1 x2
  · intro x x1 x2
    rw [oth 19 (by omega) (by omega) (by omega)]; exact V.hands x x1 x2
  · intro x k x1 x2 k1 k2
    rw [oth 20 (by omega) (by omega) (by omega), eh _ (by omega)]; exact V.busy x k x1 x2 k1 k2
  · intro x x1 x2
    rw [oth 21 (by omega) (by omega) (by omega), eh _ (by omega)]; exact V.last x x1 x2
theorem upR_self (A : Int → Int → Int) (k : Int) : upR A k (A k) = A := by
  funext j; unfold upR; by_cases e : j = k <;> simp [e]
theorem BR.tick (V : BR h b o r c q row cm F A) {v : Int} (hv : F 24 = row 0) (n : 0 ≤ row 1) (pa : ∀ x : Int, 0 ≤ x → pasF q (upI row 0 v) x = pasF q row x) (pu : ∀ x : Int, 0 ≤ x → pusF q (upI row 0 v) (r 5).toNat x = pusF q row (r 5).toNat x) : BR h b o r c q (upI row 0 v) cm (upN F 24 v) A := by
  have ok : ∀ k : Nat, k ≠ 24 → upN F 24 v k = F k := fun k hk => upN_ne hk
  have er : ∀ j : Int, j ≠ 0 → upI row 0 v j = row j := fun j hj => upI_ne hj
  refine ⟨fun k k1 k2 => by rw [ok k (by omega)]; exact V.lay k k1 k2, by rw [ok 0 (by decide)]; exact V.house, by rw [ok 1 (by decide)]; exact V.pn, by rw [ok 23 (by decide)]; exact V.sn, by rw [upN_eq, upI_eq], by rw [ok 25 (by decide), er 1 (by omega)]; exact V.many, ?_, ?_, ?_, ?_, ?_, ?_, ?_, ?_, ?_, ?_, ?_, ?_, ?_, ?_, ?_, ?_, ?_, ?_, ?_, ?_, ?_, V.rg, V.rl⟩
  · intro x x1 x2; rw [er _ (by omega)]; exact V.does x x1 x2
  · intro x x1 x2; rw [er _ (by omega)]; exact V.place x x1 x2
  · intro x x1 x2; rw [er _ (by omega)]; exact V.look x x1 x2
  · intro x x1 x2; rw [er _ (by omega)]; exact V.says x x1 x2
  · exact V.shelf
  · intro x x1 x2; rw [er _ (by omega)]; exact V.begun x x1 x2
  · intro x x1 x2; rw [er _ (by omega)]; exact V.whom x x1 x2
  · intro x x1 x2; rw [er _ (by omega)]; exact V.had x x1 x2
  · intro x x1 x2; rw [er _ (by omega), er _ (by omega), er _ (by omega)]; exact V.wait x x1 x2
  · intro x x1 x2; rw [pa x x1]; exact V.pass x x1 x2
  · intro x x1 x2; rw [pu x x1]; exact V.push x x1 x2
  · intro x x1 x2; rw [er _ (by omega)]; exact V.served x x1 x2
  · exact V.reg
  · exact V.rule
  · intro x x1 x2; rw [er _ (by omega)]; exact V.stands x x1 x2
  · exact V.frm
  · exact V.til
  · exact V.step
  · exact V.hands
  · intro x k x1 x2 k1 k2; rw [er _ (by omega)]; exact V.busy x k x1 x2 k1 k2
  · intro x x1 x2; rw [er _ (by omega)]; exact V.last x x1 x2
theorem HS.tick {n : Nat} (HH : HS q row n) : HI q (upI row 0 (row 0 + 1)) n ∧ (∀ x : Int, 0 ≤ x → pasF q (upI row 0 (row 0 + 1)) x = pasF q row x) ∧ (∀ x : Int, 0 ≤ x → pusF q (upI row 0 (row 0 + 1)) n x = pusF q row n x) := by
  have er : ∀ j : Int, j ≠ 0 → upI row 0 (row 0 + 1) j = row j := fun j hj => upI_ne hj
  obtain ⟨P, W⟩ := HH
  have nu := W.num
  have pa : ∀ x : Int, 0 ≤ x → pasF q (upI row 0 (row 0 + 1)) x = pasF q row x := fun x hx =>
    pasF_keep W (er 1 (by omega)) (fun k k1 k2 => er _ (by omega)) (fun k k1 k2 => er _ (by have := W.rng k k1 k2; omega)) (Or.inl (er _ (by omega)))
  refine ⟨⟨fun p p1 p2 => ?_, ?_⟩, pa, fun x hx => ?_⟩
  · rw [upI_eq]
    exact (P p p1 p2).cg (er _ (by omega)) (er _ (by omega)) (er _ (by omega)) (er _ (by omega)) (by rw [upI_eq]; omega)
  · rw [upI_eq]
    refine ⟨by rw [er 1 (by omega)]; exact nu, fun k k1 k2 => ?_, fun k k1 k2 => ?_, fun p p1 p2 hd => ?_, fun s s1 s2 => ?_⟩
    · rw [er 1 (by omega)] at k2
      rw [er _ (by omega)]; exact W.rng k k1 k2
    · rw [er 1 (by omega)] at k2
      have := W.rng k k1 k2
      rw [er (2 + k) (by omega), er _ (by omega), er _ (by omega)]; exact W.isb k k1 k2
    · rw [er _ (by omega)] at hd
      obtain ⟨k, k1, k2, k3⟩ := W.all p p1 p2 hd
      exact ⟨k, k1, by rw [er 1 (by omega)]; exact k2, by rw [er _ (by omega)]; exact k3⟩
    · rw [er _ (by omega)]; exact W.lst s s1 s2
  · exact pusF_keep (er _ (by omega)) (fun j hj => pa j (by omega))
theorem HS_hsN {n : Nat} {s : Int} (HO : HouseOK r) (C : CrewOK c) (hn : n = (r 5).toNat) (hB : 10000 ≤ B) (hs : 0 ≤ s ∧ s < 4) (R : RowOK B row) (HH : HS q row n) (t : Int) : ∀ j : Nat, j ≤ 2 → HS q (hsN r c q n t s row j) n
  | 0, _ => HH
  | j + 1, hj => by
    have pm := HO.pm
    have ih := HS_hsN HO C hn hB hs R HH t j (by omega)
    obtain ⟨R1, e1⟩ := hsN_ok (q := q) (t := t) (n := n) (by omega) hB HO C hs R j (by omega)
    simp only [hsN]
    split
    · have gen : ∀ (k : Nat) (rw1 : Int → Int) (p : Int), RowOK B rw1 → HS q rw1 n → (p = -2 ∨ (0 ≤ p ∧ p < n ∧ rw1 (12 + 8 * p + 0) = 1)) → HS q (begN r c q n s (1 + j) k rw1 p) n := by
        intro k
        induction k with
        | zero => intro rw1 p _ H _; exact H
        | succ k ih2 =>
          intro rw1 p Rr Hr hp
          by_cases e : p = -2
          · rw [show begN r c q n s (1 + j) (k + 1) rw1 p = rw1 from if_pos e]; exact Hr
          · rcases hp with hp | ⟨p1, p2, hw⟩
            · exact absurd hp e
            have cp := cw_pos ⟨p1, by omega⟩ hw
            have rm := Rr.room
            have sv := Rr.served
            rw [show begN r c q n s (1 + j) (k + 1) rw1 p = begN r c q n s (1 + j) k (bgnR rw1 s (1 + j) p (doneF r c rw1 s p)) (if doneF r c rw1 s p ≤ rw1 0 then nxN c q (bgnR rw1 s (1 + j) p (doneF r c rw1 s p)) s n else -2) from if_neg e]
            have R2 := RowOK.bgn (hand := 1 + (j : Int)) hB HO C Rr hs ⟨by omega, by omega⟩ ⟨p1, by omega⟩ hw
            subst hn
            refine ih2 _ _ R2 (HS.bgn (by omega) hs ⟨by omega, by omega⟩ ⟨p1, p2⟩ (by omega) hw Rr.now.1 Hr) ?_
            split
            · rcases nxN_b c q (bgnR rw1 s (1 + j) p (doneF r c rw1 s p)) s (r 5).toNat with z | z
              · exact Or.inl z
              · exact Or.inr z
            · exact Or.inl rfl
      refine gen 12 _ _ R1 ih ?_
      rcases nxN_b c q (hsN r c q n t s row j) s n with z | z
      · exact Or.inl z
      · exact Or.inr z
    · exact ih
theorem c_goes (E : BE h b o hb r c q cm) (V : BR h b o r c q row cm F A) (R : RowOK B row) (HH : HI q row (r 5).toNat) (hB : 10000 ≤ B ∧ B ≤ 100000) (h9 : row 0 ≤ 900)
    (hq : ∀ F' A', BR h b o r c q (secF r c q cm row) cm F' A' → HI q (secF r c q cm row) (r 5).toNat → F' 26 = F 26 → Qv (blk h b 21 F' A')) : g_X21_goes b Qv (blk h b 21 F A) := by
  have hn := E.ho.pm
  have h4 := E.cm4
  have n0 := R.now
  have hn5 : (r 5).toNat ≤ 10 := by omega
  have qb : ∀ p : Int, 0 ≤ p → p < ((r 5).toNat : Int) → 0 ≤ q (7 * p + 2) ∧ 0 ≤ q (7 * p + 4) := fun p p1 p2 => ⟨(E.pe.comes p p1 (by omega)).1, (E.pe.patience p p1 (by omega)).1⟩
  generalize ht : row 0 = t at *
  -- the staff and the clock
  have ph3 : ∀ F1 A1, BR h b o r c q (psN q t row (r 5).toNat) cm F1 A1 → F1 26 = F 26 → g_X21_goes_b176 b Qv (blk h b 21 F1 A1) := by
    intro F1 A1 V1 f1
    obtain ⟨R1, e1⟩ := psN_ok (q := q) hB.1 R (t := t) ⟨by omega, by omega⟩ (r 5).toNat hn5
    have H1 := HI_psN hn5 qb HH (by rw [ht]; omega) (r 5).toNat (Nat.le_refl _)
    rw [ht] at H1 e1
    obtain ⟨P1, W1, -, -, -⟩ := H1
    have HS1 : HS q (psN q t row (r 5).toNat) (r 5).toNat := by
      rw [HS, e1]
      refine ⟨fun p p1 p2 => ?_, ?_⟩
      · have := P1 p p1 p2
        rw [if_pos p2] at this; exact this
      · exact ⟨W1.num, W1.rng, fun k k1 k2 => ⟨(W1.isb k k1 k2).1, by have := (W1.isb k k1 k2).2; omega⟩, W1.all, W1.lst⟩
    have ce : secF r c q cm row = upI (stN r c q (r 5).toNat t (psN q t row (r 5).toNat) cm) 0 (t + 1) := by
      unfold secF sec0; rw [ht]
    rw [ce] at hq
    generalize psN q t row (r 5).toNat = rw1 at V1 R1 e1 HS1 hq
    unfold g_X21_goes_b176
    refine Lp1_ind (k := cm) (fun m i h' => ∃ (j : Nat) (F' : Nat → Int) (A' : Int → Int → Int), j ≤ cm ∧ m = cm - j ∧ i = j ∧ h' = blk h b 21 F' A' ∧ BR h b o r c q (stN r c q (r 5).toNat t rw1 j) cm F' A' ∧ HS q (stN r c q (r 5).toNat t rw1 j) (r 5).toNat ∧ F' 26 = F 26) ?_ ⟨0, F1, A1, by omega, by omega, rfl, rfl, V1, HS1, f1⟩
    rintro m i h' ⟨j, F', A', hj, rfl, rfl, rfl, V', H', f'⟩ K hK
    obtain ⟨R', e'⟩ := stN_ok (q := q) (t := t) (n := (r 5).toNat) hn5 hB.1 E.ho E.cr R1 j (by omega)
    rw [e1] at e'
    unfold g_X21_goes_L178
    simp only [blk_F]
    rw [V'.sn]
    refine ⟨fun c1 => ?_, fun c1 => ?_⟩
    · have ej : j = cm := by omega
      subst ej
      unfold g_X21_goes_b197
      simp only [blk_F]
      rw [V'.now, e']
      refine ⟨(by first | omega | (unfold i32; omega)), ?_⟩
      rintro m204 rfl
      rw [blk_setF]
      obtain ⟨T1, T2, T3⟩ := H'.tick
      rw [e'] at T1 T2 T3
      exact hq _ _ (V'.tick (V'.now) R'.served T2 T3) T1 (by rw [upN_ne (by decide)]; exact f')
    · have hs : 0 ≤ (j : Int) ∧ (j : Int) < cm := ⟨by omega, c1⟩
      refine c_serves E V' R' H' hB hs (fun F2 A2 V2 H2 f2 _ => ⟨(by first | omega | (unfold i32; omega)), fun y ey => hK (cm - (j + 1)) _ _ (by omega) ⟨j + 1, F2, A2, by omega, rfl, by omega, rfl, ?_, ?_, f2.trans f'⟩⟩)
      · rw [e'] at V2; exact V2
      · rw [e'] at H2; exact H2
  -- shelves and patience
  have ph2 : ∀ F1 A1, BR h b o r c q (arrN q t row (r 5).toNat) cm F1 A1 → F1 26 = F 26 → (∀ p : Int, 0 ≤ p → p < ((r 5).toNat : Int) → PI q (arrN q t row (r 5).toNat) p (t + 1)) → WI (arrN q t row (r 5).toNat) (r 5).toNat t → arrN q t row (r 5).toNat 0 = t → g_X21_goes_b56 b Qv (blk h b 21 F1 A1) := by
    intro F1 A1 V1 f1 P1 W1 z1
    have eq := psN_arr (q := q) (row := row) (t := t) (n := (r 5).toNat) (fun p p1 p2 z => by
      have := (P1 p p1 p2).away z.1
      omega)
    rw [← eq] at ph3
    generalize arrN q t row (r 5).toNat = X at V1 P1 W1 z1 ph3
    unfold g_X21_goes_b56
    refine Lp1_ind (k := (r 5).toNat) (fun m i h' => ∃ (j : Nat) (F' : Nat → Int) (A' : Int → Int → Int), j ≤ (r 5).toNat ∧ m = (r 5).toNat - j ∧ i = j ∧ h' = blk h b 21 F' A' ∧ BR h b o r c q (psN q t X j) cm F' A' ∧ F' 26 = F 26 ∧ (∀ p : Int, 0 ≤ p → p < ((r 5).toNat : Int) → PI q (psN q t X j) p (t + 1)) ∧ WI (psN q t X j) (r 5).toNat t ∧ psN q t X j 0 = t) ?_ ⟨0, F1, A1, by omega, by omega, rfl, rfl, V1, f1, P1, W1, z1⟩
    rintro m i h' ⟨j, F', A', hj, rfl, rfl, rfl, V', f', P', W', z'⟩ K hK
    have Hh := E.hou (F := F') (A := A')
    unfold g_X21_goes_L58
    simp only [blk_F]
    rw [V'.pn]
    refine ⟨fun c1 => ?_, fun c1 => ?_⟩
    · have ej : j = (r 5).toNat := by omega
      subst ej
      exact ph3 F' A' V' f'
    · have hp : 0 ≤ (j : Int) ∧ (j : Int) < r 5 := ⟨by omega, c1⟩
      have hpn : (j : Int) < ((r 5).toNat : Int) := by omega
      have Pj := P' j hp.1 hpn
      have qj := qb j hp.1 hpn
      have pj := (E.pe.comes j hp.1 (by omega)).2
      have sj := E.pe.shelf j hp.1 (by omega)
      generalize hY : psN q t X j = Y at V' P' W' z' Pj
      have na : ¬ (Y (12 + 8 * (j : Int) + 0) = 0 ∧ q (7 * (j : Int) + 2) = t) := fun z => by
        have := (Pj.away z.1).2.2
        omega
      have pc := psR_c (q := q) (row := Y) (t := t) (p := (j : Int))
      -- the next state, whatever the step
      have nx : ∀ A2 : Int → Int → Int, A2 1 = upI (A' 1) j (psR q Y t j (12 + 8 * (j : Int) + 0)) → A2 8 = upI (A' 8) j (psR q Y t j (12 + 8 * (j : Int) + 5)) → (∀ x : Int, x ≠ j → A2 9 x = A' 9 x) → (2 ≤ psR q Y t j (12 + 8 * (j : Int) + 0) → psR q Y t j (12 + 8 * (j : Int) + 0) ≤ 4 → A2 9 j = (if psR q Y t j (12 + 8 * (j : Int) + 0) = 2 then psR q Y t j (12 + 8 * (j : Int) + 4) else psR q Y t j (12 + 8 * (j : Int) + 7)) - q (7 * (j : Int) + 2)) → (∀ k : Int, k ≠ 1 → k ≠ 8 → k ≠ 9 → A2 k = A' k) → g_X21_goes_b170 b Qv K j (blk h b 21 F' A2) := by
        intro A2 a1 a8 a9 w oth
        unfold g_X21_goes_b170
        refine ⟨(by first | omega | (unfold i32; omega)), fun y ey => hK ((r 5).toNat - (j + 1)) _ _ (by omega) ⟨j + 1, F', A2, by omega, rfl, by omega, rfl, ?_, f', ?_, ?_, ?_⟩⟩
        · show BR h b o r c q (psR q (psN q t X j) t j) cm F' A2
          rw [hY]
          exact V'.ps (by omega) hp (fun x x0 x5 x7 => psR_o x0 x5 x7) (fun x hx => pas_ps (by omega) hx Pj W') (fun x _ => pus_ps (by omega) Pj W') a1 a8 a9 w oth
        · intro p p1 p2
          show PI q (psR q (psN q t X j) t j) p (t + 1)
          rw [hY]
          by_cases z : p = j
          · subst z
            exact Pj.ps (by omega) (Int.le_refl _) z' (by omega) qj.1 qj.2 p1
          · exact (P' p p1 p2).cg (psR_else z ⟨by omega, by omega⟩) (psR_else z ⟨by omega, by omega⟩) (psR_else z ⟨by omega, by omega⟩) (psR_else z ⟨by omega, by omega⟩) (by rw [psR_lo (by omega) (by omega)]; exact Int.le_refl _)
        · show WI (psR q (psN q t X j) t j) (r 5).toNat t
          rw [hY]
          exact WI.ps (by omega) (by omega) W'
        · show psR q (psN q t X j) t j 0 = t
          rw [hY, psR_lo (by omega) (by omega)]; exact z'
      have vd := V'.does j hp.1 hp.2
      have vh := V'.had j hp.1 hp.2
      simp only [ba_1, ba_5]
      rw [vd, V'.shelf j hp.1 hp.2, V'.now, z']
      refine ⟨(by first | omega | (unfold i32; omega)), fun c2 => ⟨(by first | omega | (unfold i32; omega)), ?_⟩, fun c2 => ?_⟩
      · -- he waits
        have dd : Y (12 + 8 * (j : Int) + 0) = 1 ∨ (Y (12 + 8 * (j : Int) + 0) = 0 ∧ q (7 * (j : Int) + 2) = t) := Or.inl c2
        have b122 : ¬ (0 ≤ q (7 * (j : Int) + 6) - 1 ∧ q (7 * (j : Int) + 6) - 1 ≤ t) → g_X21_goes_b122 b Qv K j (blk h b 21 F' A') := by
          intro ns
          have qr := E.qr j hp.1 hp.2
          unfold g_X21_goes_b122
          simp only [blk_F]
          rw [V'.house, V'.now, z']
          refine ⟨Hh.lay, Hh.per hp (fun P _ => ⟨P.1, ?_⟩)⟩
          simp only [blk_F]
          rw [V'.house, P.2.2.1, ← qr.1]
          refine ⟨(by first | omega | (unfold i32; omega)), Hh.lay, Hh.per hp (fun P2 _ => ⟨P2.1, ?_⟩)⟩
          rw [P2.2.2.2.2.1, ← qr.2]
          have dq : psD q Y t j = if q (7 * (j : Int) + 4) ≤ t - q (7 * (j : Int) + 2) then 4 else 1 := by
            unfold psD; rw [if_pos dd, if_neg ns]
          refine ⟨fun c3 => ?_, fun c3 => c_ends E V'.house (by rw [V'.now, z']; omega) hp (fun _ => ?_)⟩
          · rw [if_neg (by omega)] at dq
            refine nx A' ?_ ?_ (fun _ _ => rfl) (fun z _ => by rw [pc.1, dq] at z; omega) (fun _ _ _ _ => rfl)
            · rw [pc.1, dq]; exact (upI_z (by rw [vd, c2])).symm
            · rw [pc.2.1, dq, if_neg (fun z => absurd z.2 (by omega))]; exact (upI_z vh).symm
          · rw [if_pos c3] at dq
            refine nx _ ?_ ?_ (fun x hx => ?_) (fun _ _ => ?_) (fun k k1 k8 k9 => by rw [upR_ne k9, upR_ne k1])
            · rw [upR_ne (by omega), upR_eq, pc.1, dq]
            · rw [upR_ne (by omega), upR_ne (by omega), pc.2.1, dq, if_neg (fun z => absurd z.2 (by omega))]; exact (upI_z vh).symm
            · rw [upR_eq, upI_ne hx]
            · rw [upR_eq, upI_eq, pc.1, dq, if_neg (by omega), pc.2.2, dq, if_pos ⟨dd, by omega⟩, V'.now, z']
        refine ⟨fun c3 => b122 (fun z => ?_), fun c3 => ⟨(by first | omega | (unfold i32; omega)), fun c4 => b122 (fun z => ?_), fun c4 => c_ends E V'.house (by rw [V'.now, z']; omega) hp (fun _ => ⟨(by first | omega | (unfold i32; omega)), ?_⟩)⟩⟩
        · by_cases w : q (7 * (j : Int) + 6) = 0
          · omega
          · rw [if_neg w] at c3; omega
        · by_cases w : q (7 * (j : Int) + 6) = 0
          · omega
          · rw [if_neg w] at c4; omega
        · have w : q (7 * (j : Int) + 6) ≠ 0 := fun w => by rw [if_pos w] at c3; exact c3 rfl
          rw [if_neg w] at c4
          have dq : psD q Y t j = 3 := by
            unfold psD; rw [if_pos dd, if_pos ⟨by omega, c4⟩]
          rintro m118 rfl
          rw [bas_8, blk_F, V'.now, z']
          refine nx _ ?_ ?_ (fun x hx => ?_) (fun _ _ => ?_) (fun k k1 k8 k9 => by rw [upR_ne k8, upR_ne k9, upR_ne k1])
          · rw [upR_ne (by omega), upR_ne (by omega), upR_eq, pc.1, dq]
          · rw [upR_eq, upR_ne (by omega), upR_ne (by omega), pc.2.1, dq, if_pos ⟨dd, rfl⟩]
          · rw [upR_ne (by omega), upR_eq, upI_ne hx]
          · rw [upR_ne (by omega), upR_eq, upI_eq, pc.1, dq, if_neg (by omega), pc.2.2, dq, if_pos ⟨dd, by omega⟩]
      · have dd : ¬ (Y (12 + 8 * (j : Int) + 0) = 1 ∨ (Y (12 + 8 * (j : Int) + 0) = 0 ∧ q (7 * (j : Int) + 2) = t)) := fun z => z.elim c2 na
        have dq : psD q Y t j = Y (12 + 8 * (j : Int) + 0) := if_neg dd
        refine nx A' ?_ ?_ (fun _ _ => rfl) (fun z1 z2 => ?_) (fun _ _ _ _ => rfl)
        · rw [pc.1, dq]; exact (upI_z vd).symm
        · rw [pc.2.1, if_neg (fun z => dd z.1)]; exact (upI_z vh).symm
        · rw [pc.1, dq] at z1 z2 ⊢
          rw [pc.2.2, if_neg (show ¬ ((Y (12 + 8 * (j : Int) + 0) = 1 ∨ (Y (12 + 8 * (j : Int) + 0) = 0 ∧ q (7 * (j : Int) + 2) = t)) ∧ psD q Y t j ≠ 1) from fun z => dd z.1), psR_o (by omega) (by omega) (by omega)]
          exact V'.wait j hp.1 hp.2 z1 z2
  -- who comes
  unfold g_X21_goes
  refine Lp1_ind (k := (r 5).toNat) (fun m i h' => ∃ (j : Nat) (F' : Nat → Int) (A' : Int → Int → Int), j ≤ (r 5).toNat ∧ m = (r 5).toNat - j ∧ i = j ∧ h' = blk h b 21 F' A' ∧ BR h b o r c q (arrN q t row j) cm F' A' ∧ F' 26 = F 26 ∧ (∀ p : Int, 0 ≤ p → p < ((r 5).toNat : Int) → PI q (arrN q t row j) p (if p < j then t + 1 else t)) ∧ WI (arrN q t row j) (r 5).toNat t ∧ arrN q t row j 0 = t) ?_ ⟨0, F, A, by omega, by omega, rfl, rfl, V, rfl, fun p p1 p2 => by rw [if_neg (by omega), ← ht]; exact HH.1 p p1 p2, by rw [← ht]; exact HH.2, ht⟩
  rintro m i h' ⟨j, F', A', hj, rfl, rfl, rfl, V', f', P', W', z'⟩ K hK
  have Hh := E.hou (F := F') (A := A')
  unfold g_X21_goes_L2
  simp only [blk_F]
  rw [V'.pn]
  refine ⟨fun c1 => ?_, fun c1 => ?_⟩
  · have ej : j = (r 5).toNat := by omega
    subst ej
    exact ph2 F' A' V' f' (fun p p1 p2 => by have := P' p p1 p2; rw [if_pos p2] at this; exact this) W' z'
  · have hp : 0 ≤ (j : Int) ∧ (j : Int) < r 5 := ⟨by omega, c1⟩
    have hpn : (j : Int) < ((r 5).toNat : Int) := by omega
    have Pj := P' j hp.1 hpn
    rw [if_neg (by omega)] at Pj
    generalize hY : arrN q t row j = Y at V' P' W' z' Pj
    have vd := V'.does j hp.1 hp.2
    have vh := V'.had j hp.1 hp.2
    have nx : ∀ A2 : Int → Int → Int, A2 1 = upI (A' 1) j (arrR q Y t j (12 + 8 * (j : Int) + 0)) → (∀ k : Int, k ≠ 1 → A2 k = A' k) → g_X21_goes_b50 b Qv K j (blk h b 21 F' A2) := by
      intro A2 a1 oth
      unfold g_X21_goes_b50
      refine ⟨(by first | omega | (unfold i32; omega)), fun y ey => hK ((r 5).toNat - (j + 1)) _ _ (by omega) ⟨j + 1, F', A2, by omega, rfl, by omega, rfl, ?_, f', ?_, ?_, ?_⟩⟩
      · show BR h b o r c q (arrR q (arrN q t row j) t j) cm F' A2
        rw [hY]
        refine V'.ps (by omega) hp (fun x x0 x5 x7 => arrR_o x0) (fun x hx => pas_arr (by omega) W') (fun x _ => pus_arr (by omega) W') a1 ?_ (fun x hx => by rw [oth 9 (by omega)]) (fun z1 z2 => ?_) (fun k k1 _ _ => oth k k1)
        · rw [oth 8 (by omega), arrR_o (by omega)]; exact (upI_z vh).symm
        · rw [oth 9 (by omega)]
          rw [arrR_0] at z1 z2 ⊢
          by_cases cc : Y (12 + 8 * (j : Int) + 0) = 0 ∧ q (7 * (j : Int) + 2) = t
          · rw [if_pos cc] at z1; omega
          · rw [if_neg cc] at z1 z2 ⊢
            rw [arrR_o (by omega), arrR_o (by omega)]
            exact V'.wait j hp.1 hp.2 z1 z2
      · intro p p1 p2
        show PI q (arrR q (arrN q t row j) t j) p _
        rw [hY]
        by_cases z : p = j
        · subst z
          rw [if_pos (by omega)]
          exact Pj.arr p1
        · have e1 : (if p < ((j + 1 : Nat) : Int) then t + 1 else t) = (if p < (j : Int) then t + 1 else t) := by
            by_cases w : p < (j : Int)
            · rw [if_pos w, if_pos (by omega)]
            · rw [if_neg w, if_neg (by omega)]
          rw [e1]
          exact (P' p p1 p2).cg (arrR_o (by omega)) (arrR_o (by omega)) (arrR_o (by omega)) (arrR_o (by omega)) (by rw [arrR_o (by omega)]; exact Int.le_refl _)
      · show WI (arrR q (arrN q t row j) t j) (r 5).toNat t
        rw [hY]
        exact WI.arr (by omega) (by omega) W'
      · show arrR q (arrN q t row j) t j 0 = t
        rw [hY, arrR_o (by omega)]; exact z'
    simp only [ba_1]
    rw [vd, V'.house]
    refine ⟨(by first | omega | (unfold i32; omega)), fun c2 => nx A' ?_ (fun _ _ => rfl), fun c2 => ⟨Hh.lay, Hh.per hp (fun P _ => ⟨P.1, ?_⟩)⟩⟩
    · rw [arrR_0, if_neg (fun z => c2 z.1)]; exact (upI_z vd).symm
    · have qr := E.qr j hp.1 hp.2
      rw [P.2.2.1, ← qr.1, blk_F, V'.now, z']
      refine ⟨fun c3 => nx A' ?_ (fun _ _ => rfl), fun c3 => ⟨(by first | omega | (unfold i32; omega)), ?_⟩⟩
      · rw [arrR_0, if_neg (fun z => c3 z.2)]; exact (upI_z vd).symm
      · rintro m49 rfl
        rw [bas_1]
        refine nx _ ?_ (fun k k1 => upR_ne k1)
        rw [upR_eq, arrR_0, if_pos ⟨c2, c3⟩]
/-- so many seconds on -/
theorem HI_secN (E : BE h b o hb r c q cm) : True := trivial
theorem c_evening (E : BE h b o hb r c q cm) (V : BR h b o r c q row cm F A) (R : RowOK B row) (HH : HI q row (r 5).toNat) (hB : 10000 ≤ B ∧ B ≤ 100000) (hbl : 0 ≤ F 26 ∧ F 26 ≤ 900)
    (hq : ∀ F' A', BR h b o r c q (evF r c q cm (F 26) row) cm F' A' → HI q (evF r c q cm (F 26) row) (r 5).toNat → F' 26 = F 26 → Q b (blk h b 21 F' A')) : g_X21_evening b Q (blk h b 21 F A) := by
  have n0 := R.now
  unfold g_X21_evening
  unfold evF at hq
  refine Lp0_ind (k := (F 26 + 1 - row 0).toNat) (fun m h' => ∃ (j : Nat) (F' : Nat → Int) (A' : Int → Int → Int), j ≤ (F 26 + 1 - row 0).toNat ∧ m = (F 26 + 1 - row 0).toNat - j ∧ h' = blk h b 21 F' A' ∧ BR h b o r c q (secN r c q cm j row) cm F' A' ∧ HI q (secN r c q cm j row) (r 5).toNat ∧ F' 26 = F 26) ?_ ⟨0, F, A, by omega, by omega, rfl, V, HH, rfl⟩
  rintro m h' ⟨j, F', A', hj, rfl, rfl, V', H', f'⟩ K hK
  obtain ⟨R', e'⟩ := secN_ok (q := q) (cm := cm) hB.1 E.ho E.cr E.cm4 R j (by omega)
  unfold g_X21_evening_L0 g_X21_evening_b18
  simp only [blk_F]
  rw [V'.now, f', e']
  refine ⟨fun c1 => ?_, fun c1 => c_goes E V' R' H' hB (by omega) (fun F2 A2 V2 H2 f2 _ => hK ((F 26 + 1 - row 0).toNat - (j + 1)) _ (by omega) ⟨j + 1, F2, A2, by omega, rfl, rfl, V2, H2, f2.trans f'⟩)⟩
  have ej : j = (F 26 + 1 - row 0).toNat := by omega
  rw [ej] at V' H'
  exact hq F' A' V' H' f'
end B
