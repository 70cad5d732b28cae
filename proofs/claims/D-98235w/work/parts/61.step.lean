/-! LAYER 2: the steps of a second on the history; the first free hand again and again is hand after hand. No heap here. -/
theorem psR_o {q row : Int → Int} {t p j : Int} (h0 : j ≠ 12 + 8 * p + 0) (h5 : j ≠ 12 + 8 * p + 5) (h7 : j ≠ 12 + 8 * p + 7) : psR q row t p j = row j := by
  have ha : arrR q row t p j = row j := by
    unfold arrR
    split
    · exact upI_ne h0
    · rfl
  unfold psR
  split
  · exact ha
  split
  · rw [upI_ne h7, upI_ne h5, upI_ne h0]; exact ha
  split
  · rw [upI_ne h7, upI_ne h0]; exact ha
  · exact ha
/-- what one does behind his step -/
def psD (q row : Int → Int) (t p : Int) : Int :=
  if row (12 + 8 * p + 0) = 1 ∨ (row (12 + 8 * p + 0) = 0 ∧ q (7 * p + 2) = t) then
    (if 0 ≤ q (7 * p + 6) - 1 ∧ q (7 * p + 6) - 1 ≤ t then 3 else if q (7 * p + 4) ≤ t - q (7 * p + 2) then 4 else 1)
  else row (12 + 8 * p + 0)
theorem psR_c {q row : Int → Int} {t p : Int} : psR q row t p (12 + 8 * p + 0) = psD q row t p ∧
    psR q row t p (12 + 8 * p + 5) = (if (row (12 + 8 * p + 0) = 1 ∨ (row (12 + 8 * p + 0) = 0 ∧ q (7 * p + 2) = t)) ∧ psD q row t p = 3 then t else row (12 + 8 * p + 5)) ∧
    psR q row t p (12 + 8 * p + 7) = (if (row (12 + 8 * p + 0) = 1 ∨ (row (12 + 8 * p + 0) = 0 ∧ q (7 * p + 2) = t)) ∧ psD q row t p ≠ 1 then t else row (12 + 8 * p + 7)) := by
  by_cases c : row (12 + 8 * p + 0) = 0 ∧ q (7 * p + 2) = t
  · have ea : arrR q row t p = upI row (12 + 8 * p + 0) 1 := if_pos c
    have d : row (12 + 8 * p + 0) = 1 ∨ (row (12 + 8 * p + 0) = 0 ∧ q (7 * p + 2) = t) := Or.inr c
    unfold psR psD
    rw [ea, upI_eq, if_neg (show ¬ (1 : Int) ≠ 1 by omega), if_pos d]
    by_cases s1 : 0 ≤ q (7 * p + 6) - 1 ∧ q (7 * p + 6) - 1 ≤ t
    · rw [if_pos s1, if_pos s1, upI_ne (by omega), upI_ne (by omega), upI_eq, upI_ne (show 12 + 8 * p + 5 ≠ 12 + 8 * p + 7 by omega), upI_eq, upI_eq, if_pos ⟨d, rfl⟩, if_pos ⟨d, by omega⟩]
      exact ⟨rfl, rfl, rfl⟩
    · rw [if_neg s1, if_neg s1]
      by_cases s2 : q (7 * p + 4) ≤ t - q (7 * p + 2)
      · rw [if_pos s2, if_pos s2, upI_ne (by omega), upI_eq, upI_ne (show 12 + 8 * p + 5 ≠ 12 + 8 * p + 7 by omega), upI_ne (by omega), upI_ne (by omega), upI_eq, if_neg (fun z => absurd z.2 (by omega)), if_pos ⟨d, by omega⟩]
        exact ⟨rfl, rfl, rfl⟩
      · rw [if_neg s2, if_neg s2, upI_eq, upI_ne (by omega), upI_ne (by omega), if_neg (fun z => absurd z.2 (by omega)), if_neg (fun z => z.2 rfl)]
        exact ⟨rfl, rfl, rfl⟩
  · have ea : arrR q row t p = row := if_neg c
    unfold psR psD
    rw [ea]
    by_cases w : row (12 + 8 * p + 0) = 1
    · have d : row (12 + 8 * p + 0) = 1 ∨ (row (12 + 8 * p + 0) = 0 ∧ q (7 * p + 2) = t) := Or.inl w
      rw [if_neg (show ¬ row (12 + 8 * p + 0) ≠ 1 from fun z => z w), if_pos d]
      by_cases s1 : 0 ≤ q (7 * p + 6) - 1 ∧ q (7 * p + 6) - 1 ≤ t
      · rw [if_pos s1, if_pos s1, upI_ne (by omega), upI_ne (by omega), upI_eq, upI_ne (show 12 + 8 * p + 5 ≠ 12 + 8 * p + 7 by omega), upI_eq, upI_eq, if_pos ⟨d, rfl⟩, if_pos ⟨d, by omega⟩]
        exact ⟨rfl, rfl, rfl⟩
      · rw [if_neg s1, if_neg s1]
        by_cases s2 : q (7 * p + 4) ≤ t - q (7 * p + 2)
        · rw [if_pos s2, if_pos s2, upI_ne (by omega), upI_eq, upI_ne (show 12 + 8 * p + 5 ≠ 12 + 8 * p + 7 by omega), upI_ne (by omega), upI_eq, if_neg (fun z => absurd z.2 (by omega)), if_pos ⟨d, by omega⟩]
          exact ⟨rfl, rfl, rfl⟩
        · rw [if_neg s2, if_neg s2, w, if_neg (fun z => absurd z.2 (by omega)), if_neg (fun z => z.2 rfl)]
          exact ⟨rfl, rfl, rfl⟩
    · have d : ¬ (row (12 + 8 * p + 0) = 1 ∨ (row (12 + 8 * p + 0) = 0 ∧ q (7 * p + 2) = t)) := fun z => z.elim w c
      rw [if_pos w, if_neg d, if_neg (fun z => d z.1), if_neg (fun z => d z.1)]
      exact ⟨rfl, rfl, rfl⟩
section HB
variable {q e : Int → Int} {n : Nat}
theorem PI.ps {t t1 p : Int} (P : PI q e p t1) (g1 : t ≤ t1) (g2 : t1 ≤ t + 1) (h0 : e 0 = t) (ht : 0 ≤ t) (hc : 0 ≤ q (7 * p + 2)) (hpt : 0 ≤ q (7 * p + 4)) (hp : 0 ≤ p) : PI q (psR q e t p) p (t + 1) := by
  obtain ⟨c0, -, c7⟩ := psR_c (q := q) (row := e) (t := t) (p := p)
  have c4 : psR q e t p (12 + 8 * p + 4) = e (12 + 8 * p + 4) := psR_o (by omega) (by omega) (by omega)
  have c6 : psR q e t p (12 + 8 * p + 6) = e (12 + 8 * p + 6) := psR_o (by omega) (by omega) (by omega)
  have cz : psR q e t p 0 = e 0 := psR_o (by omega) (by omega) (by omega)
  have d := P.does
  unfold PI
  rw [c0, c4, c6, c7, cz]
  by_cases c : e (12 + 8 * p + 0) = 1 ∨ (e (12 + 8 * p + 0) = 0 ∧ q (7 * p + 2) = t)
  · have pre : e (12 + 8 * p + 4) = -2 ∧ e (12 + 8 * p + 7) = -2 ∧ q (7 * p + 2) ≤ t := by
      rcases c with c | c
      · have := P.wait c; omega
      · have := P.away c.1; omega
    have wh : e (12 + 8 * p + 6) = -2 := P.whom (by omega)
    have e1 : psD q e t p = (if 0 ≤ q (7 * p + 6) - 1 ∧ q (7 * p + 6) - 1 ≤ t then 3 else if q (7 * p + 4) ≤ t - q (7 * p + 2) then 4 else 1) := if_pos c
    have e3 : psD q e t p = 1 ∨ psD q e t p = 3 ∨ psD q e t p = 4 := by
      rw [e1]; split
      · exact Or.inr (Or.inl rfl)
      split
      · exact Or.inr (Or.inr rfl)
      · exact Or.inl rfl
    by_cases z : psD q e t p = 1
    · rw [if_neg (fun w => w.2 z), z]
      refine ⟨by omega, fun w => absurd w (by omega), fun _ => ⟨pre.1, pre.2.1, by omega⟩, fun w => absurd w (by omega), fun w => absurd w (by omega), fun _ => wh⟩
    · rw [if_pos ⟨c, z⟩]
      refine ⟨by omega, fun w => by omega, fun w => absurd w z, fun w => by omega, fun _ => ⟨pre.1, by omega, pre.2.2, by omega⟩, fun _ => wh⟩
  · have e1 : psD q e t p = e (12 + 8 * p + 0) := if_neg c
    rw [e1, if_neg (fun w => c w.1)]
    refine ⟨d, fun w => ?_, fun w => absurd (Or.inl w) c, P.bgn, P.fin, P.whom⟩
    have a := P.away w
    refine ⟨a.1, a.2.1, ?_⟩
    have : q (7 * p + 2) ≠ t := fun z => c (Or.inr ⟨w, z⟩)
    omega
theorem psR_else {t p x o : Int} (hx : x ≠ p) (ho : 0 ≤ o ∧ o < 8) : psR q e t p (12 + 8 * x + o) = e (12 + 8 * x + o) := psR_o (by omega) (by omega) (by omega)
theorem psR_lo {t p j : Int} (hp : 0 ≤ p) (hj : j < 12) : psR q e t p j = e j := psR_o (by omega) (by omega) (by omega)
theorem psR_hi {t p j : Int} (hp : p < 10) (hj : 92 ≤ j) : psR q e t p j = e j := psR_o (by omega) (by omega) (by omega)
theorem psD_2 {t p : Int} : psD q e t p = 2 ↔ e (12 + 8 * p + 0) = 2 := by
  unfold psD
  split
  · rename_i c
    refine ⟨fun z => ?_, fun z => by omega⟩
    split at z
    · omega
    split at z <;> omega
  · exact Iff.rfl
theorem WI.ps {t p tb : Int} (hp : 0 ≤ p) (hp2 : p < 10) (W : WI e n tb) : WI (psR q e t p) n tb := by
  have nu := W.num
  have l : ∀ k : Int, 0 ≤ k → k < e 1 → psR q e t p (2 + k) = e (2 + k) := fun k k1 k2 => psR_lo hp (by omega)
  have l1 : psR q e t p 1 = e 1 := psR_lo hp (by omega)
  have d2 : ∀ x : Int, psR q e t p (12 + 8 * x + 0) = 2 ↔ e (12 + 8 * x + 0) = 2 := fun x => by
    by_cases c : x = p
    · rw [c, psR_c.1]; exact psD_2
    · rw [psR_else c ⟨by omega, by omega⟩]
  have d4 : ∀ x : Int, psR q e t p (12 + 8 * x + 4) = e (12 + 8 * x + 4) := fun x => by
    by_cases c : x = p
    · rw [c]; exact psR_o (by omega) (by omega) (by omega)
    · exact psR_else c ⟨by omega, by omega⟩
  refine ⟨by rw [l1]; exact nu, fun k k1 k2 => ?_, fun k k1 k2 => ?_, fun x x1 x2 hd => ?_, fun x x1 x2 => by rw [psR_hi hp2 (by omega)]; exact W.lst x x1 x2⟩
  · rw [l1] at k2; rw [l k k1 k2]; exact W.rng k k1 k2
  · rw [l1] at k2; rw [l k k1 k2, d2, d4]; exact W.isb k k1 k2
  · rw [d2] at hd
    obtain ⟨k, k1, k2, k3⟩ := W.all x x1 x2 hd
    exact ⟨k, k1, by rw [l1]; exact k2, by rw [l k k1 k2]; exact k3⟩
theorem pas_ps {t t1 p x : Int} (hp : 0 ≤ p) (hx : 0 ≤ x) (P : PI q e p t1) (W : WI e n t) : pasF q (psR q e t p) x = pasF q e x := by
  have nu := W.num
  refine pasF_keep W (psR_lo hp (by omega)) (fun k k1 k2 => psR_lo hp (by omega)) (fun k k1 k2 => ?_) ?_
  · by_cases c : e (2 + k) = p
    · rw [c]; exact psR_o (by omega) (by omega) (by omega)
    · exact psR_else c ⟨by omega, by omega⟩
  · by_cases c : x = p
    · subst c
      rw [psR_c.2.2]
      split
      · rename_i z
        refine Or.inr ⟨?_, Int.le_refl _⟩
        rcases z.1 with w | w
        · exact (P.wait w).2.1
        · exact (P.away w.1).2.1
      · exact Or.inl rfl
    · exact Or.inl (psR_else c ⟨by omega, by omega⟩)
theorem pus_ps {t t1 p x : Int} (hp : 0 ≤ p) (P : PI q e p t1) (W : WI e n t) : pusF q (psR q e t p) n x = pusF q e n x := by
  refine pusF_keep ?_ (fun j hj => pas_ps hp (by omega) P W)
  by_cases c : x = p
  · rw [c]; exact psR_o (by omega) (by omega) (by omega)
  · exact psR_else c ⟨by omega, by omega⟩
/-- the history between two seconds -/
abbrev HI (q e : Int → Int) (n : Nat) : Prop := (∀ p : Int, 0 ≤ p → p < n → PI q e p (e 0)) ∧ WI e n (e 0)
theorem HI_psN (hn : n ≤ 10) (hq : ∀ p : Int, 0 ≤ p → p < n → 0 ≤ q (7 * p + 2) ∧ 0 ≤ q (7 * p + 4)) (H : HI q e n) (ht : 0 ≤ e 0) : ∀ j : Nat, j ≤ n →
    (∀ p : Int, 0 ≤ p → p < n → PI q (psN q (e 0) e j) p (if p < j then e 0 + 1 else e 0)) ∧ WI (psN q (e 0) e j) n (e 0) ∧ psN q (e 0) e j 0 = e 0 ∧ (∀ x : Int, 0 ≤ x → pasF q (psN q (e 0) e j) x = pasF q e x) ∧ (∀ x : Int, pusF q (psN q (e 0) e j) n x = pusF q e n x)
  | 0, _ => ⟨fun p p1 p2 => by rw [if_neg (by omega)]; exact H.1 p p1 p2, H.2, rfl, fun _ _ => rfl, fun _ => rfl⟩
  | j + 1, hj => by
    obtain ⟨a, b, c, d, f⟩ := HI_psN hn hq H ht j (by omega)
    have hqj := hq j (by omega) (by omega)
    have Pj := a j (by omega) (by omega)
    rw [if_neg (by omega)] at Pj
    simp only [psN]
    refine ⟨fun p p1 p2 => ?_, WI.ps (by omega) (by omega) b, by rw [psR_lo (by omega) (by omega), c], fun x hx => by rw [pas_ps (by omega) hx Pj b, d x hx], fun x => by rw [pus_ps (by omega) Pj b, f x]⟩
    have Pp := a p p1 p2
    by_cases z : p = j
    · subst z
      rw [if_pos (by omega)]
      exact Pj.ps (Int.le_refl _) (by omega) c ht hqj.1 hqj.2 (by omega)
    · have e1 : (if p < ((j + 1 : Nat) : Int) then e 0 + 1 else e 0) = (if p < (j : Int) then e 0 + 1 else e 0) := by
        by_cases w : p < (j : Int)
        · rw [if_pos w, if_pos (by omega)]
        · rw [if_neg w, if_neg (by omega)]
      rw [e1]
      exact Pp.cg (psR_else z ⟨by omega, by omega⟩) (psR_else z ⟨by omega, by omega⟩) (psR_else z ⟨by omega, by omega⟩) (psR_else z ⟨by omega, by omega⟩) (by rw [psR_lo (by omega) (by omega)]; exact Int.le_refl _)
end HB
/-! all arrive first, then the rest of the people's steps -/
def arrN (q : Int → Int) (t : Int) (row : Int → Int) : Nat → (Int → Int)
  | 0 => row
  | j + 1 => arrR q (arrN q t row j) t j
theorem upI_cm {f : Int → Int} {a b x y : Int} (h : a ≠ b) : upI (upI f a x) b y = upI (upI f b y) a x := by
  funext j
  unfold upI
  by_cases e1 : j = b
  · rw [if_pos e1, if_neg (by omega), if_pos e1]
  · rw [if_neg e1]
    by_cases e2 : j = a
    · rw [if_pos e2, if_pos e2]
    · rw [if_neg e2, if_neg e2, if_neg e1]
theorem arrR_cm {q row : Int → Int} {t a b : Int} (h : a ≠ b) : arrR q (arrR q row t a) t b = arrR q (arrR q row t b) t a := by
  have ea : arrR q row t a (12 + 8 * b + 0) = row (12 + 8 * b + 0) := by
    unfold arrR; split
    · exact upI_ne (by omega)
    · rfl
  have eb : arrR q row t b (12 + 8 * a + 0) = row (12 + 8 * a + 0) := by
    unfold arrR; split
    · exact upI_ne (by omega)
    · rfl
  have ua : ∀ r : Int → Int, arrR q r t a = if r (12 + 8 * a + 0) = 0 ∧ q (7 * a + 2) = t then upI r (12 + 8 * a + 0) 1 else r := fun _ => rfl
  have ub : ∀ r : Int → Int, arrR q r t b = if r (12 + 8 * b + 0) = 0 ∧ q (7 * b + 2) = t then upI r (12 + 8 * b + 0) 1 else r := fun _ => rfl
  rw [ub (arrR q row t a), ua (arrR q row t b), ea, eb, ua row, ub row]
  by_cases c1 : row (12 + 8 * a + 0) = 0 ∧ q (7 * a + 2) = t
  · by_cases c2 : row (12 + 8 * b + 0) = 0 ∧ q (7 * b + 2) = t
    · rw [if_pos c1, if_pos c2, if_pos c2, if_pos c1, upI_cm (by omega)]
    · rw [if_pos c1, if_neg c2, if_neg c2, if_pos c1]
  · by_cases c2 : row (12 + 8 * b + 0) = 0 ∧ q (7 * b + 2) = t
    · rw [if_neg c1, if_pos c2, if_neg c1]
    · rw [if_neg c1, if_neg c2, if_neg c1]
theorem arrR_id {q row : Int → Int} {t a : Int} : arrR q (arrR q row t a) t a = arrR q row t a := by
  have ua : ∀ r : Int → Int, arrR q r t a = if r (12 + 8 * a + 0) = 0 ∧ q (7 * a + 2) = t then upI r (12 + 8 * a + 0) 1 else r := fun _ => rfl
  rw [ua (arrR q row t a), ua row]
  by_cases c1 : row (12 + 8 * a + 0) = 0 ∧ q (7 * a + 2) = t
  · rw [if_pos c1, upI_eq, if_neg (by omega)]
  · rw [if_neg c1, if_neg c1]
/-- the rest of a step, behind the arrivals -/
def resR (q row : Int → Int) (t p : Int) : Int → Int :=
  if row (12 + 8 * p + 0) ≠ 1 then row
  else if 0 ≤ q (7 * p + 6) - 1 ∧ q (7 * p + 6) - 1 ≤ t then upI (upI (upI row (12 + 8 * p + 0) 3) (12 + 8 * p + 5) t) (12 + 8 * p + 7) t
  else if q (7 * p + 4) ≤ t - q (7 * p + 2) then upI (upI row (12 + 8 * p + 0) 4) (12 + 8 * p + 7) t
  else row
theorem psR_res {q row : Int → Int} {t p : Int} : psR q row t p = resR q (arrR q row t p) t p := rfl
theorem res_arr {q row : Int → Int} {t a b : Int} (h : a ≠ b) : resR q (arrR q row t b) t a = arrR q (resR q row t a) t b := by
  have eb : arrR q row t b (12 + 8 * a + 0) = row (12 + 8 * a + 0) := by
    unfold arrR; split
    · exact upI_ne (by omega)
    · rfl
  have er : resR q row t a (12 + 8 * b + 0) = row (12 + 8 * b + 0) := by
    unfold resR; split
    · rfl
    split
    · rw [upI_ne (by omega), upI_ne (by omega), upI_ne (by omega)]
    split
    · rw [upI_ne (by omega), upI_ne (by omega)]
    · rfl
  have ub : ∀ r : Int → Int, arrR q r t b = if r (12 + 8 * b + 0) = 0 ∧ q (7 * b + 2) = t then upI r (12 + 8 * b + 0) 1 else r := fun _ => rfl
  rw [ub (resR q row t a), er]
  have ur : ∀ r : Int → Int, resR q r t a = if r (12 + 8 * a + 0) ≠ 1 then r
    else if 0 ≤ q (7 * a + 6) - 1 ∧ q (7 * a + 6) - 1 ≤ t then upI (upI (upI r (12 + 8 * a + 0) 3) (12 + 8 * a + 5) t) (12 + 8 * a + 7) t
    else if q (7 * a + 4) ≤ t - q (7 * a + 2) then upI (upI r (12 + 8 * a + 0) 4) (12 + 8 * a + 7) t
    else r := fun _ => rfl
  rw [ur (arrR q row t b), eb, ub row, ur row]
  by_cases c : row (12 + 8 * b + 0) = 0 ∧ q (7 * b + 2) = t
  · rw [if_pos c, if_pos c]
    by_cases c1 : row (12 + 8 * a + 0) ≠ 1
    · rw [if_pos c1, if_pos c1]
    · rw [if_neg c1, if_neg c1]
      by_cases c2 : 0 ≤ q (7 * a + 6) - 1 ∧ q (7 * a + 6) - 1 ≤ t
      · rw [if_pos c2, if_pos c2, upI_cm (show 12 + 8 * b + 0 ≠ 12 + 8 * a + 0 by omega), upI_cm (show 12 + 8 * b + 0 ≠ 12 + 8 * a + 5 by omega), upI_cm (show 12 + 8 * b + 0 ≠ 12 + 8 * a + 7 by omega)]
      · rw [if_neg c2, if_neg c2]
        by_cases c3 : q (7 * a + 4) ≤ t - q (7 * a + 2)
        · rw [if_pos c3, if_pos c3, upI_cm (show 12 + 8 * b + 0 ≠ 12 + 8 * a + 0 by omega), upI_cm (show 12 + 8 * b + 0 ≠ 12 + 8 * a + 7 by omega)]
        · rw [if_neg c3, if_neg c3]
  · rw [if_neg c, if_neg c]
def resN (q : Int → Int) (t : Int) (row : Int → Int) : Nat → (Int → Int)
  | 0 => row
  | j + 1 => resR q (resN q t row j) t j
theorem resN_arr {q X : Int → Int} {t p : Int} : ∀ i : Nat, (i : Int) ≤ p → resN q t (arrR q X t p) i = arrR q (resN q t X i) t p
  | 0, _ => rfl
  | i + 1, h => by
    simp only [resN]
    rw [resN_arr i (by omega), res_arr (by omega)]
theorem psN_res {q row : Int → Int} {t : Int} : ∀ n : Nat, psN q t row n = resN q t (arrN q t row n) n
  | 0 => rfl
  | n + 1 => by
    simp only [psN, resN, arrN]
    rw [resN_arr n (Int.le_refl _), psN_res n, psR_res]
/-! the arrivals alone, on the history -/
theorem arrR_o {q row : Int → Int} {t p j : Int} (h0 : j ≠ 12 + 8 * p + 0) : arrR q row t p j = row j := by
  unfold arrR
  split
  · exact upI_ne h0
  · rfl
theorem arrR_0 {q row : Int → Int} {t p : Int} : arrR q row t p (12 + 8 * p + 0) = if row (12 + 8 * p + 0) = 0 ∧ q (7 * p + 2) = t then 1 else row (12 + 8 * p + 0) := by
  unfold arrR
  by_cases c : row (12 + 8 * p + 0) = 0 ∧ q (7 * p + 2) = t
  · rw [if_pos c, if_pos c, upI_eq]
  · rw [if_neg c, if_neg c]
theorem PI.arr {q e : Int → Int} {t p : Int} (P : PI q e p t) (hp : 0 ≤ p) : PI q (arrR q e t p) p (t + 1) := by
  have d := P.does
  unfold PI
  rw [arrR_0, arrR_o (show 12 + 8 * p + 4 ≠ 12 + 8 * p + 0 by omega), arrR_o (show 12 + 8 * p + 6 ≠ 12 + 8 * p + 0 by omega), arrR_o (show 12 + 8 * p + 7 ≠ 12 + 8 * p + 0 by omega), arrR_o (show (0 : Int) ≠ 12 + 8 * p + 0 by omega)]
  by_cases c : e (12 + 8 * p + 0) = 0 ∧ q (7 * p + 2) = t
  · rw [if_pos c]
    have a := P.away c.1
    have w := P.whom (by omega)
    exact ⟨by omega, fun z => absurd z (by omega), fun _ => ⟨a.1, a.2.1, by omega⟩, fun z => absurd z (by omega), fun z => absurd z (by omega), fun _ => w⟩
  · rw [if_neg c]
    refine ⟨d, fun z => ?_, fun z => ?_, P.bgn, P.fin, P.whom⟩
    · have a := P.away z
      refine ⟨a.1, a.2.1, ?_⟩
      have : q (7 * p + 2) ≠ t := fun y => c ⟨z, y⟩
      omega
    · have a := P.wait z
      exact ⟨a.1, a.2.1, by omega⟩
theorem WI.arr {q e : Int → Int} {n : Nat} {t p tb : Int} (hp : 0 ≤ p) (hp2 : p < 10) (W : WI e n tb) : WI (arrR q e t p) n tb := by
  have nu := W.num
  have l : ∀ k : Int, 0 ≤ k → k < e 1 → arrR q e t p (2 + k) = e (2 + k) := fun k k1 k2 => arrR_o (by omega)
  have l1 : arrR q e t p 1 = e 1 := arrR_o (by omega)
  have d2 : ∀ x : Int, arrR q e t p (12 + 8 * x + 0) = 2 ↔ e (12 + 8 * x + 0) = 2 := fun x => by
    by_cases c : x = p
    · rw [c, arrR_0]; split <;> omega
    · rw [arrR_o (by omega)]
  refine ⟨by rw [l1]; exact nu, fun k k1 k2 => ?_, fun k k1 k2 => ?_, fun x x1 x2 hd => ?_, fun x x1 x2 => by rw [arrR_o (by omega)]; exact W.lst x x1 x2⟩
  · rw [l1] at k2; rw [l k k1 k2]; exact W.rng k k1 k2
  · rw [l1] at k2; rw [l k k1 k2, d2, arrR_o (by omega)]; exact W.isb k k1 k2
  · rw [d2] at hd
    obtain ⟨k, k1, k2, k3⟩ := W.all x x1 x2 hd
    exact ⟨k, k1, by rw [l1]; exact k2, by rw [l k k1 k2]; exact k3⟩
theorem pas_arr {q e : Int → Int} {n : Nat} {t p tb x : Int} (hp : 0 ≤ p) (W : WI e n tb) : pasF q (arrR q e t p) x = pasF q e x := by
  have nu := W.num
  exact pasF_keep W (arrR_o (by omega)) (fun k k1 k2 => arrR_o (by omega)) (fun k k1 k2 => arrR_o (by omega)) (Or.inl (arrR_o (by omega)))
theorem pus_arr {q e : Int → Int} {n : Nat} {t p tb x : Int} (hp : 0 ≤ p) (W : WI e n tb) : pusF q (arrR q e t p) n x = pusF q e n x :=
  pusF_keep (arrR_o (by omega)) (fun j hj => pas_arr hp W)
theorem arrN_id {q X : Int → Int} {t : Int} : ∀ n : Nat, (∀ p : Int, 0 ≤ p → p < n → ¬ (X (12 + 8 * p + 0) = 0 ∧ q (7 * p + 2) = t)) → arrN q t X n = X
  | 0, _ => rfl
  | n + 1, h => by
    simp only [arrN]
    rw [arrN_id n (fun p p1 p2 => h p p1 (by omega))]
    exact if_neg (h n (by omega) (by omega))
/-- the arrivals of all ahead of all other steps -/
theorem psN_arr {q row : Int → Int} {t : Int} {n : Nat} (h : ∀ p : Int, 0 ≤ p → p < n → ¬ (arrN q t row n (12 + 8 * p + 0) = 0 ∧ q (7 * p + 2) = t)) : psN q t (arrN q t row n) n = psN q t row n := by
  rw [psN_res n, arrN_id n h, ← psN_res n]
/-! hands -/
theorem begN_f {r c q : Int → Int} {B s hand : Int} {n : Nat} (hn : n ≤ 10) (hB : 10000 ≤ B) (HO : HouseOK r) (C : CrewOK c) (hs : 0 ≤ s ∧ s < 4) (hh : 1 ≤ hand ∧ hand ≤ 2) :
    ∀ (k : Nat) (row : Int → Int) (p : Int), RowOK B row → (p = -2 ∨ (0 ≤ p ∧ p < 10 ∧ row (12 + 8 * p + 0) = 1)) → ww row < k → begN r c q n s hand (k + 1) row p = begN r c q n s hand k row p
  | 0, row, p, R, hp, hw => by have := ww_b row; omega
  | k + 1, row, p, R, hp, hw => by
    by_cases e : p = -2
    · rw [show begN r c q n s hand (k + 1 + 1) row p = row from if_pos e, show begN r c q n s hand (k + 1) row p = row from if_pos e]
    · rcases hp with hp | ⟨p1, p2, hw1⟩
      · exact absurd hp e
      have R1 := RowOK.bgn (hand := hand) hB HO C R hs hh ⟨p1, p2⟩ hw1
      have c1 := cw_pos ⟨p1, p2⟩ hw1
      have c2 := R.room
      have c3 := R.served
      have w9 := bgnR_ww (done := doneF r c row s p) hs hh ⟨p1, p2⟩ (by omega) hw1
      rw [show begN r c q n s hand (k + 1 + 1) row p = begN r c q n s hand (k + 1) (bgnR row s hand p (doneF r c row s p)) (if doneF r c row s p ≤ row 0 then nxN c q (bgnR row s hand p (doneF r c row s p)) s n else -2) from if_neg e,
        show begN r c q n s hand (k + 1) row p = begN r c q n s hand k (bgnR row s hand p (doneF r c row s p)) (if doneF r c row s p ≤ row 0 then nxN c q (bgnR row s hand p (doneF r c row s p)) s n else -2) from if_neg e]
      refine begN_f hn hB HO C hs hh k _ _ R1 ?_ (by omega)
      split
      · exact nx_ok hn
      · exact Or.inl rfl
/-- the first hand that is free, as a number from 1 on; 0: none -/
def fhN (row : Int → Int) (t s : Int) : Nat → Int
  | 0 => 0
  | k + 1 => if fhN row t s k = 0 ∧ row (92 + 4 * s + (1 + k)) ≤ t then 1 + (k : Int) else fhN row t s k
theorem fhN_b (row : Int → Int) (t s : Int) : ∀ k : Nat, 0 ≤ fhN row t s k ∧ fhN row t s k ≤ k
  | 0 => ⟨Int.le_refl _, Int.le_refl _⟩
  | k + 1 => by
    have := fhN_b row t s k
    simp only [fhN]
    split <;> omega
theorem bgnR_h {row : Int → Int} {s hand p0 done : Int} (hs : 0 ≤ s ∧ s < 4) (hh : 1 ≤ hand ∧ hand ≤ 2) (hp : 0 ≤ p0 ∧ p0 < 10) (h1 : 0 ≤ row 1 ∧ row 1 < 10) {h2 : Int} (hh2 : 1 ≤ h2 ∧ h2 ≤ 2) : bgnR row s hand p0 done (92 + 4 * s + h2) = if h2 = hand then done else row (92 + 4 * s + h2) := by
  unfold bgnR
  rw [if_neg (by omega), if_neg (by omega), if_neg (by omega)]
  by_cases e : h2 = hand
  · rw [if_pos (by omega), if_pos e]
  · rw [if_neg (by omega), if_neg e, if_neg (by omega), if_neg (by omega), if_neg (by omega), if_neg (by omega), if_neg (by omega)]
section HS
variable {r c q : Int → Int} {B s : Int} {n : Nat}
/-- no hand free, or nobody to begin with: the hands' round changes nothing -/
theorem hsN_no {row : Int → Int} : ∀ H : Nat, (fhN row (row 0) s H = 0 ∨ nxN c q row s n = -2) → hsN r c q n (row 0) s row H = row
  | 0, _ => rfl
  | H + 1, h => by
    have ih : hsN r c q n (row 0) s row H = row := hsN_no H (by
      rcases h with h | h
      · refine Or.inl ?_
        have b := fhN_b row (row 0) s H
        simp only [fhN] at h
        split at h
        · omega
        · exact h
      · exact Or.inr h)
    simp only [hsN]
    rw [ih]
    by_cases z : row (92 + 4 * s + (1 + H)) ≤ row 0
    · rw [if_pos z]
      rcases h with h | h
      · have b := fhN_b row (row 0) s H
        simp only [fhN] at h
        split at h
        · omega
        · rename_i w
          exact absurd ⟨h, z⟩ w
      · rw [h]; rfl
    · rw [if_neg z]
/-- one begin ahead of the hands' round changes nothing in its end -/
theorem hsN_go (hn : n ≤ 10) (hB : 10000 ≤ B) (HO : HouseOK r) (C : CrewOK c) (hs : 0 ≤ s ∧ s < 4) {row : Int → Int} (R : RowOK B row) {h p : Int} (hp : p = nxN c q row s n) (hp2 : p ≠ -2) : ∀ H : Nat, H ≤ 2 → h = fhN row (row 0) s H → h ≠ 0 →
    hsN r c q n (row 0) s (bgnR row s h p (doneF r c row s p)) H = hsN r c q n (row 0) s row H
  | 0, _, hh, hz => absurd hh hz
  | H + 1, hH, hh, hz => by
    have nk := nx_ok (c := c) (q := q) (row := row) (s := s) hn
    rw [← hp] at nk
    rcases nk with nk | ⟨p1, p2, hw⟩
    · exact absurd nk hp2
    have b := fhN_b row (row 0) s H
    have c1 := cw_pos ⟨p1, p2⟩ hw
    have c2 := R.room
    have c3 := R.served
    have r1 : 0 ≤ row 1 ∧ row 1 < 10 := by omega
    by_cases z : fhN row (row 0) s H = 0
    · have e0 : hsN r c q n (row 0) s row H = row := hsN_no H (Or.inl z)
      simp only [fhN] at hh
      by_cases w : fhN row (row 0) s H = 0 ∧ row (92 + 4 * s + (1 + H)) ≤ row 0
      · rw [if_pos w] at hh
        have h12 : 1 ≤ h ∧ h ≤ 2 := by omega
        have R1 := RowOK.bgn (hand := h) hB HO C R hs h12 ⟨p1, p2⟩ hw
        have w9 := bgnR_ww (done := doneF r c row s p) hs h12 ⟨p1, p2⟩ r1 hw
        have wb := ww_b row
        have z0 : bgnR row s h p (doneF r c row s p) 0 = row 0 := bgnR_0 hs h12 ⟨p1, p2⟩ r1.1
        have hv : ∀ h2 : Int, 1 ≤ h2 → h2 ≤ 2 → bgnR row s h p (doneF r c row s p) (92 + 4 * s + h2) = if h2 = h then doneF r c row s p else row (92 + 4 * s + h2) := fun h2 a1 a2 => bgnR_h hs h12 ⟨p1, p2⟩ r1 ⟨a1, a2⟩
        have f1 : fhN (bgnR row s h p (doneF r c row s p)) (bgnR row s h p (doneF r c row s p) 0) s H = 0 := by
          have gen : ∀ K : Nat, K ≤ H → fhN row (row 0) s K = 0 → fhN (bgnR row s h p (doneF r c row s p)) (row 0) s K = 0 := by
            intro K
            induction K with
            | zero => intro _ _; rfl
            | succ K ih =>
              intro hK hf
              have bK := fhN_b row (row 0) s K
              simp only [fhN] at hf ⊢
              split at hf
              · omega
              · rename_i w2
                have i1 := ih (by omega) hf
                rw [i1, hv _ (by omega) (by omega), if_neg (show ¬ 1 + (K : Int) = h by omega), if_neg (fun y => w2 ⟨hf, y.2⟩)]
          rw [z0]
          exact gen H (Nat.le_refl _) z
        have e1 : hsN r c q n (row 0) s (bgnR row s h p (doneF r c row s p)) H = bgnR row s h p (doneF r c row s p) := by
          have := hsN_no (r := r) (c := c) (q := q) (n := n) (s := s) (row := bgnR row s h p (doneF r c row s p)) H (Or.inl f1)
          rw [z0] at this
          exact this
        simp only [hsN]
        rw [e0, e1, if_pos w.2, hv _ (by omega) (by omega), if_pos hh.symm, ← hp, ← hh]
        rw [show begN r c q n s h 12 row p = begN r c q n s h 11 (bgnR row s h p (doneF r c row s p)) (if doneF r c row s p ≤ row 0 then nxN c q (bgnR row s h p (doneF r c row s p)) s n else -2) from if_neg hp2]
        by_cases d : doneF r c row s p ≤ row 0
        · rw [if_pos d, if_pos d]
          exact begN_f hn hB HO C hs h12 11 _ _ R1 (nx_ok hn) (by omega)
        · rw [if_neg d, if_neg d]
          rfl
      · rw [if_neg w] at hh
        exact absurd (hh.trans z) hz
    · have hh' : h = fhN row (row 0) s H := by
        simp only [fhN] at hh
        rw [if_neg (fun y => z y.1)] at hh
        exact hh
      have ih := hsN_go hn hB HO C hs R hp hp2 H (by omega) hh' hz
      simp only [hsN]
      rw [ih]
end HS
