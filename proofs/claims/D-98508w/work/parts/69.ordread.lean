set_option maxRecDepth 100000
/-! ===== texts: orders ===== -/
abbrev OC : Type := Int × Option (DS × DS) × Int × Option DT
/-- an order as it lies in the heap -/
def OrdE (s : St) (a : Nat) (c : OC) : Prop := (sk s a).1 = 15 ∧ (si s a 0 = iI c.1 ∧ 0 ≤ c.1 ∧ c.1 ≤ 2) ∧ (si s a 3 = iI c.2.2.1 ∧ 1 ≤ c.2.2.1 ∧ c.2.2.1 ≤ 20) ∧ ((c.2.1 = none → c.1 = 1) ∧ ∀ q, c.2.1 = some q → c.1 ≠ 1 ∧ (dok q.1 ∧ dok q.2) ∧ ∃ b d, (sr s a 1 = some b ∧ sr s a 2 = some d) ∧ SumE s b 64 q.1 ∧ SumE s d 64 q.2) ∧ ((c.2.2.2 = none → sr s a 4 = none) ∧ ∀ t, c.2.2.2 = some t → ∃ b, sr s a 4 = some b ∧ TestE s b 40 t)
def QOr (s : St) (lo hi a : Nat) (c : OC) : Prop := (lo ≤ a ∧ a < hi) ∧ (sk s a).1 = 15 ∧ ∀ s2, Kp (fun b => lo ≤ b ∧ b < hi) s s2 → SkC s2 → OrdE s2 a c
theorem QOr_ok : QOk QOr := fun s lo hi a x h => ⟨h.1, by rw [h.2.1]; decide, fun s' hk => ⟨h.1, by rw [(hk a h.1).1]; exact h.2.1, fun s2 h2 hS => h.2.2 s2 (hk.tr h2) hS⟩⟩
/-- the order that is being read -/
def Orz (s : St) (C : Nat) (h : Int) (o : Option (DS × DS)) (t : Int) : Prop := (sk s C).1 = 15 ∧ (si s C 0 = iI h ∧ 0 ≤ h ∧ h ≤ 2) ∧ (si s C 3 = iI t ∧ 1 ≤ t ∧ t ≤ 20) ∧ C < sn s ∧ sr s C 4 = none ∧ (o = none → h = 1) ∧ ∀ q, o = some q → h ≠ 1 ∧ (dok q.1 ∧ dok q.2) ∧ ∃ a b, (sr s C 1 = some a ∧ sr s C 2 = some b) ∧ SumAt s (C + 1) (sn s) a 64 q.1 ∧ SumAt s (C + 1) (sn s) b 64 q.2
theorem Orz.go {s s' : St} {C : Nat} {h t : Int} {o : Option (DS × DS)} (z : Orz s C h o t) (hs : ∀ x, C ≤ x → x < sn s → same s s' x) (hn : sn s ≤ sn s') : Orz s' C h o t := by
  obtain ⟨z1, z2, z3, z4, z5, z6, z7⟩ := z
  have hC := hs C (Nat.le_refl _) z4
  refine ⟨by rw [hC.1]; exact z1, by rw [hC.2.1]; exact z2, by rw [hC.2.1]; exact z3, by omega, by rw [hC.2.2.2]; exact z5, z6, fun q hq => ?_⟩
  obtain ⟨y1, y2, a, b, y3, y4, y5⟩ := z7 q hq
  exact ⟨y1, y2, a, b, by rw [hC.2.2.2]; exact y3, (y4.go (fun x hx => hs x (by omega) hx.2)).le (Nat.le_refl _) hn (Nat.le_refl _), (y5.go (fun x hx => hs x (by omega) hx.2)).le (Nat.le_refl _) hn (Nat.le_refl _)⟩
/-- without its test it is told so -/
theorem Orz.fin {s s2 : St} {C : Nat} {h t : Int} {o : Option (DS × DS)} (z : Orz s C h o t) (hk : ∀ x, C < x → x < sn s → same s s2 x) (hC0 : sk s2 C = sk s C ∧ si s2 C = si s C) (hC1 : ∀ j, j ≠ 4 → sr s2 C j = sr s C j) (hS : SkC s2) {ot : Option DT} (h4 : (ot = none → sr s2 C 4 = none) ∧ ∀ t, ot = some t → ∃ b, sr s2 C 4 = some b ∧ TestE s2 b 40 t) : OrdE s2 C (h, o, t, ot) := by
  obtain ⟨z1, z2, z3, z4, z5, z6, z7⟩ := z
  refine ⟨by rw [hC0.1]; exact z1, by rw [hC0.2]; exact z2, by rw [hC0.2]; exact z3, ⟨z6, fun q hq => ?_⟩, h4⟩
  obtain ⟨y1, y2, a, b, y3, y4, y5⟩ := z7 q hq
  exact ⟨y1, y2, a, b, by rw [hC1 1 (by decide), hC1 2 (by decide)]; exact y3, y4.2 s2 (fun x hx => hk x (by omega) hx.2) hS, y5.2 s2 (fun x hx => hk x (by omega) hx.2) hS⟩
theorem e_o132 {R lo L b c C : Nat} {T : Nat → Int} {n p l m p0 l0 m0 q r : Nat} {cs : List OC} {f : Nat → Nat} {s s0 : St} {y : OC} (h0 : Pre s0 R T n p0 l0 0 m0) (h : RdE s R T n p l 0 m) (hv : Vd s) (hP : PF R s0 s q r) (hq : q + 8 ≤ 8 * (p - p0) ∧ r + 500 ≤ 500 * (p - p0)) (hp : p0 < p) (hl : l0 ≤ l ∧ l ≤ 50) (hk6 : (sk s0 R).1 = 17) (h7 : sr s0 R 7 = some L) (hLis : Lis QOr s0 lo L b c cs f) (hk : cs.length ≤ 200) (hR : R < lo) (hC : sn s0 ≤ C) (hy : QOr s C (sn s) C y) : CO QOr R lo L b cs T n p0 l0 m s0 (F_X20_clause_132 s (some R) (some C)) (.inr (y, p, l)) := by
  have hR0 := h0.R
  have hpos := h.pos
  have hm0 := h0.2.2.1
  have t := hP.2.1
  have hL0 := hLis.2.2.2.1
  have hb0 := hLis.2.2.2.2.1
  have hLs : Lis QOr s lo L b c cs f := hLis.go QOr_ok (fun x h1 h2 => hP.1 x h2 (by omega)) t.1
  unfold Rm at hm0
  unfold Tk at t
  obtain ⟨s', b', c', f', e, L', o', tk', v'⟩ := e_lis_add QOr_ok hLs hv hk hy (by omega) ⟨by omega, by omega⟩ (by omega) (by omega)
  have hn := tk'.1
  have sR : same s s' R := o' R (by omega) (by omega) (by omega)
  have h31 := h0.2.2.2.2.2
  have s19 : same s s' 19 := o' 19 (by omega) (fun z => by
    have k : (sk s 19).1 = 18 := by rw [z]; exact hLs.1.1
    rw [h.2.2.1] at k
    exact absurd k (by decide)) (fun z => by
    have k : (sk s 19).1 = 104 := by rw [z, hLs.1.2.2.1]
    rw [h.2.2.1] at k
    exact absurd k (by decide))
  unfold F_X20_clause_132
  rw [drf_s, isK_g (by rw [hP.2.2.2.1]; exact hk6), hP.2.2.2.2, h7, drf_s, isK_g hLs.1.1, e, bnd_s]
  refine ⟨s', b', c', f', rfl, h.same sR s19, L', fun z hz z1 z2 z3 => (hP.1 z hz z1).tr (o' z (by omega) z2 z3), (hP.2.1.tr tk').le (by omega) (by omega), v', ⟨by rw [sR.1]; exact hP.2.2.2.1, by rw [sR.2.2.2]; exact hP.2.2.2.2⟩, ⟨hp, hpos.1⟩, hl⟩
noncomputable def oWhen (T : Nat → Int) (n : Nat) (V : VP) (h : Int) (o : Option (DS × DS)) (t : Int) (p l : Nat) : PR OC := @ite _ (tokIs T n p (strB 10)) (Classical.propDecidable _) (match testP T n V 12 0 (nxt T n p) l with
    | .inl q => .inl q
    | .inr (te, p', l') => .inr ((h, o, t, some te), p', l')) (.inr ((h, o, t, none), p, l))
theorem e_o115 {R lo L b c C : Nat} {T : Nat → Int} {n p l m p0 l0 m0 q r : Nat} {cs : List OC} {f : Nat → Nat} {s s0 : St} {hd tm : Int} {o : Option (DS × DS)} {V : VP} (hT : ∀ s p l, (sk s R).1 = 17 → Pre s R T n p l 0 m → TO R T n p l 0 m 28 s (F_testR 12 s R) (testP T n V 12 0 p l)) (h0 : Pre s0 R T n p0 l0 0 m0) (h : RdE s R T n p l 0 m) (hv : Vd s) (hP : PF R s0 s q r) (hq : q + 8 ≤ 8 * (p - p0) ∧ r + 500 ≤ 500 * (p - p0)) (hp : p0 < p) (hl : l0 ≤ l ∧ l ≤ 50) (hk6 : (sk s0 R).1 = 17) (h7 : sr s0 R 7 = some L) (hLis : Lis QOr s0 lo L b c cs f) (hk : cs.length ≤ 200) (hR : R < lo) (hC : sn s0 ≤ C) (hZ : Orz s C hd o tm) : CO QOr R lo L b cs T n p0 l0 m s0 (F_X20_clause_115 s (some R) (some C)) (oWhen T n V hd o tm p l) := by
  have hR0 := h0.R
  have hpos := h.pos
  have hnx := nxt_r (T := T) hpos.1
  obtain ⟨s1, e1, r1, x1⟩ := e_X6_takes h (i := 10) (by decide)
  unfold tkP at r1
  have n1 : sn s1 = sn s := x1.2.2.2.1.1
  have smx1 : ∀ x, x ≠ R → same s s1 x := fun x hx => ⟨by rw [x1.1], x1.2.2.2.2 x hx, by rw [x1.2.2.1], by rw [x1.2.1]⟩
  have nsn := hP.2.1.1
  have P1 : PF R s0 s1 q r := (hP.tr (x1.pf (k := 0) (m := 0))).le (by omega) (by omega)
  have Z1 : Orz s1 C hd o tm := hZ.go (fun x h1 h2 => smx1 x (by omega)) (by omega)
  have k6 : (sk s R).1 = 17 := by rw [hP.2.2.2.1]; exact hk6
  have k61 : (sk s1 R).1 = 17 := by rw [x1.1]; exact k6
  unfold F_X20_clause_115 oWhen
  rw [drf_s, isK_g k6, show (1000000010 : Nat) = 1000000000 + 10 from rfl, e1, bnd_s, k_0]
  by_cases a : tokIs T n p (strB 10)
  · have hw := tokW a (c := 2) (by decide) (by decide) hpos.1
    rw [if_pos a] at r1
    have h1 : Pre s1 R T n (nxt T n p) l 0 m := h0.pf r1 P1 (by omega) hnx.2.1 (by omega) (by omega) hl.2 (by omega)
    have ht := hT s1 _ _ k61 h1
    rw [if_neg (by rw [bZ_i0]; exact fun z => z a), if_pos a, drf_s, isK_g k61]
    cases et : testP T n V 12 0 (nxt T n p) l with
    | inl z =>
      rw [et] at ht
      obtain ⟨s2, b2, e2, f2, p2⟩ := ht
      rw [e2, bnx_ir]
      exact ⟨s2, b2, rfl, f2, (P1.tr p2).le (by omega) (by omega)⟩
    | inr w =>
      obtain ⟨t, p2, l2⟩ := w
      rw [et] at ht
      obtain ⟨s2, x, e2, r2, X2, P2, pp2, ll2⟩ := ht
      have n2 := P2.2.1.1
      have Z2 : Orz s2 C hd o tm := Z1.go (fun x h1 h2 => P2.1 x h2 (by omega)) n2
      have fl : Fil C s2 (setR s2 C 4 (some x)) := Fil.R
      have P3 : PF R s0 (setR s2 C 4 (some x)) (q + 8 * (p2 - nxt T n p)) (r + 500 * (p2 - nxt T n p)) := (P1.tr P2).fil fl hC hR0
      have v2 : Vd s2 := P2.2.2.1 h1.2.1
      have hC1 : C < sn s1 := Z1.2.2.2.1
      rw [e2, bnx_il, drf_s, isK_g Z2.1, nam_v]
      refine e_o132 h0 (r2.fil fl (by omega) (fun z => by have := h0.2.2.2.2.2; omega)) (fl.vd v2) P3 ⟨by omega, by omega⟩ (by omega) (by omega) hk6 h7 hLis hk hR hC ⟨⟨Nat.le_refl _, by show C < sn s2; omega⟩, Z2.1, fun s5 hk5 hS5 => ?_⟩
      have hCC := hk5 C ⟨Nat.le_refl _, by show C < sn s2; omega⟩
      refine Z2.fin (fun y y1 y2 => ?_) ⟨hCC.1, hCC.2.1⟩ (fun j hj => by rw [hCC.2.2.2, sR_r, if_pos rfl, if_neg hj]) hS5 ⟨fun z => (by cases z), fun t' ht' => ?_⟩
      · exact (show same s2 (setR s2 C 4 (some x)) y from ⟨rfl, rfl, rfl, (fl.2.2.2 y (by omega)).2⟩).tr (hk5 y ⟨by omega, y2⟩)
      · cases ht'
        exact ⟨x, by rw [hCC.2.2.2, sR_r, if_pos rfl, if_pos rfl], ((X2.go (fl.kp (by omega))).2.2 s5 (fun y hy => hk5 y ⟨by omega, hy.2⟩) hS5).le (by omega)⟩
  · rw [if_neg a] at r1
    have v1 : Vd s1 := x1.vd hv
    rw [if_pos (by rw [bZ_i0]; exact a), if_neg a]
    refine e_o132 h0 r1 v1 P1 hq hp hl hk6 h7 hLis hk hR hC ⟨⟨Nat.le_refl _, Z1.2.2.2.1⟩, Z1.1, fun s5 hk5 hS5 => ?_⟩
    have hCC := hk5 C ⟨Nat.le_refl _, Z1.2.2.2.1⟩
    exact Z1.fin (fun y y1 y2 => hk5 y ⟨by omega, y2⟩) ⟨hCC.1, hCC.2.1⟩ (fun j _ => by rw [hCC.2.2.2]) hS5 ⟨fun _ => by rw [hCC.2.2.2]; exact Z1.2.2.2.2.1, fun t' ht' => (by cases ht')⟩
noncomputable def timesS (T : Nat → Int) (n : Nat) (V : VP) (h : Int) (o : Option (DS × DS)) (p l : Nat) : PR OC := @ite _ (tokIs T n p (strB 9)) (Classical.propDecidable _) (@ite _ (numP T n (nxt T n p) 1 20) (Classical.propDecidable _) (oWhen T n V h o (numZ T n (nxt T n p)) (nxt T n (nxt T n p)) l) (.inl (nxt T n p))) (oWhen T n V h o 1 p l)
theorem e_o95 {R lo L b c C : Nat} {T : Nat → Int} {n p l m p0 l0 m0 q r : Nat} {cs : List OC} {f : Nat → Nat} {s s0 : St} {hd : Int} {o : Option (DS × DS)} {V : VP} (hT : ∀ s p l, (sk s R).1 = 17 → Pre s R T n p l 0 m → TO R T n p l 0 m 28 s (F_testR 12 s R) (testP T n V 12 0 p l)) (h0 : Pre s0 R T n p0 l0 0 m0) (h : RdE s R T n p l 0 m) (hv : Vd s) (hP : PF R s0 s q r) (hq : q + 8 ≤ 8 * (p - p0) ∧ r + 500 ≤ 500 * (p - p0)) (hp : p0 < p) (hl : l0 ≤ l ∧ l ≤ 50) (hk6 : (sk s0 R).1 = 17) (h7 : sr s0 R 7 = some L) (hLis : Lis QOr s0 lo L b c cs f) (hk : cs.length ≤ 200) (hR : R < lo) (hC : sn s0 ≤ C) (hZ : Orz s C hd o 1) : CO QOr R lo L b cs T n p0 l0 m s0 (F_X20_clause_95 s (some R) (some C)) (timesS T n V hd o p l) := by
  have hR0 := h0.R
  have hpos := h.pos
  have hnx := nxt_r (T := T) hpos.1
  have hnx2 := nxt_r (T := T) hnx.2.1
  obtain ⟨s1, e1, r1, x1⟩ := e_X6_takes h (i := 9) (by decide)
  unfold tkP at r1
  have n1 : sn s1 = sn s := x1.2.2.2.1.1
  have smx1 : ∀ x, x ≠ R → same s s1 x := fun x hx => ⟨by rw [x1.1], x1.2.2.2.2 x hx, by rw [x1.2.2.1], by rw [x1.2.1]⟩
  have nsn := hP.2.1.1
  have P1 : PF R s0 s1 q r := (hP.tr (x1.pf (k := 0) (m := 0))).le (by omega) (by omega)
  have Z1 : Orz s1 C hd o 1 := hZ.go (fun x h1 h2 => smx1 x (by omega)) (by omega)
  have k6 : (sk s R).1 = 17 := by rw [hP.2.2.2.1]; exact hk6
  have k61 : (sk s1 R).1 = 17 := by rw [x1.1]; exact k6
  have v1 : Vd s1 := x1.vd hv
  unfold F_X20_clause_95 timesS
  rw [drf_s, isK_g k6, show (1000000009 : Nat) = 1000000000 + 9 from rfl, e1, bnd_s, k_0, k_1, k_20]
  by_cases a : tokIs T n p (strB 9)
  · have hw := tokW a (c := 5) (by decide) (by decide) hpos.1
    rw [if_pos a] at r1
    have h1 : Pre s1 R T n (nxt T n p) l 0 m := h0.pf r1 P1 (by omega) hnx.2.1 (by omega) (by omega) hl.2 (by omega)
    obtain ⟨q1, q2⟩ := e_X6_number (p0 := nxt T n p) r1 v1 h1.2.2.1.r8 (lo := 1) (hi := 20) (by omega) (by omega)
    rw [if_neg (by rw [bZ_i0]; exact fun z => z a), if_pos a, drf_s, isK_g k61]
    by_cases nb : numP T n (nxt T n p) 1 20
    · obtain ⟨s2, e2, r2, x2⟩ := q1 nb
      have n2 : sn s2 = sn s1 := x2.2.2.2.1.1
      have Z2 : Orz s2 C hd o 1 := Z1.go (fun x h1 h2 => ⟨by rw [x2.1], x2.2.2.2.2 x (by omega), by rw [x2.2.2.1], by rw [x2.2.1]⟩) (by omega)
      have fl : Fil C s2 (setI s2 C 3 (iI (numZ T n (nxt T n p)))) := Fil.I
      have P3 : PF R s0 (setI s2 C 3 (iI (numZ T n (nxt T n p)))) q r := ((P1.tr (x2.pf (k := 0) (m := 0))).le (by omega) (by omega)).fil fl hC hR0
      have Z3 : Orz (setI s2 C 3 (iI (numZ T n (nxt T n p)))) C hd o (numZ T n (nxt T n p)) := by
        obtain ⟨z1, z2, z3, z4, z5, z6, z7⟩ := Z2
        refine ⟨z1, by rw [si_set, if_pos rfl, if_neg (by decide)]; exact z2, ⟨by rw [si_set, if_pos rfl, if_pos rfl], nb.2⟩, z4, z5, z6, fun q hq => ?_⟩
        obtain ⟨y1, y2, a', b', y3, y4, y5⟩ := z7 q hq
        exact ⟨y1, y2, a', b', y3, y4.go (fl.kp (by omega)), y5.go (fl.kp (by omega))⟩
      rw [if_pos nb, e2, bnx_il, drf_s, isK_g Z2.1, nam_v]
      exact e_o115 hT h0 (r2.fil fl (by omega) (fun z => by have := h0.2.2.2.2.2; omega)) (fl.vd (x2.vd v1)) P3 (by omega) (by omega) hl hk6 h7 hLis hk hR hC Z3
    · obtain ⟨s2, b2, e2, f2, p2⟩ := q2 nb
      rw [if_neg nb, e2, bnx_ir]
      exact ⟨s2, b2, rfl, f2, (P1.tr p2).le (by omega) (by omega)⟩
  · rw [if_neg a] at r1
    rw [if_pos (by rw [bZ_i0]; exact a), if_neg a]
    exact e_o115 hT h0 r1 v1 P1 hq hp hl hk6 h7 hLis hk hR hC Z1
noncomputable def headO (T : Nat → Int) (n p : Nat) : Int := @ite _ (tokIs T n p (strB 5)) (Classical.propDecidable _) 0 (@ite _ (tokIs T n p (strB 6)) (Classical.propDecidable _) 2 (@ite _ (tokIs T n p (strB 7)) (Classical.propDecidable _) 1 (-1)))
noncomputable def ordC (T : Nat → Int) (n : Nat) (V : VP) (m p l : Nat) : PR OC :=
  if headO T n p = -1 ∨ m = 12 then .inl p
  else if headO T n p = 1 then timesS T n V 1 none (nxt T n p) l
  else match sumP T n V 12 0 (nxt T n p) l with
    | .inl q => .inl q
    | .inr (f, p', l') => @ite _ (tokIs T n p' (strB 8)) (Classical.propDecidable _) (match sumP T n V 12 0 (nxt T n p') l' with
      | .inl q => .inl q
      | .inr (g, p'', l'') => timesS T n V (headO T n p) (some (f, g)) p'' l'') (.inl p')
theorem headO_p {T : Nat → Int} {n p : Nat} (hp : p ≤ n) (h : headO T n p ≠ -1) : p + 2 ≤ n ∧ p + 2 ≤ nxt T n p ∧ (0 ≤ headO T n p ∧ headO T n p ≤ 2) := by
  unfold headO at h ⊢
  split
  · rename_i a
    have := tokW a (c := 2) (by decide) (by decide) hp
    omega
  · split
    · rename_i a
      have := tokW a (c := 7) (by decide) (by decide) hp
      omega
    · split
      · rename_i a
        have := tokW a (c := 4) (by decide) (by decide) hp
        omega
      · rename_i a1 a2 a3
        rw [if_neg a1, if_neg a2, if_neg a3] at h
        exact absurd rfl h
theorem e_o52 {R lo L b c : Nat} {T : Nat → Int} {n p l m : Nat} {cs : List OC} {f : Nat → Nat} {s : St} {V : VP} (hSu : ∀ s p l m, (sk s R).1 = 17 → Pre s R T n p l 0 m → SO R T n p l 0 m s (F_sumR 12 s R) (sumP T n V 12 0 p l)) (hT : ∀ s p l m, (sk s R).1 = 17 → Pre s R T n p l 0 m → TO R T n p l 0 m 28 s (F_testR 12 s R) (testP T n V 12 0 p l)) (h : Pre s R T n p l 0 m) (hm : m < 12) (hk6 : (sk s R).1 = 17) (h7 : sr s R 7 = some L) (hLis : Lis QOr s lo L b c cs f) (hk : cs.length ≤ 200) (hR : R < lo) {hd : Int} (hh : 0 ≤ hd ∧ hd ≤ 2) (hpw : p + 2 ≤ n ∧ p + 2 ≤ nxt T n p) : CO QOr R lo L b cs T n p l (m + 1) s (F_X20_clause_52 s (some R) (iI hd) (iI 1) (some R)) (if hd = 1 then timesS T n V 1 none (nxt T n p) l else match sumP T n V 12 0 (nxt T n p) l with
    | .inl q => .inl q
    | .inr (f, p', l') => @ite _ (tokIs T n p' (strB 8)) (Classical.propDecidable _) (match sumP T n V 12 0 (nxt T n p') l' with
      | .inl q => .inl q
      | .inr (g, p'', l'') => timesS T n V hd (some (f, g)) p'' l'') (.inl p')) := by
  have h1 := h.1
  have hR0 := h.R
  have hpos := h1.pos
  have hnx := nxt_r (T := T) hpos.1
  have hm0 := h.2.2.1
  unfold Rm at hm0
  obtain ⟨o1, -⟩ := e_X6_begins h1 h.2.1 h.2.2.1.r8 (by omega) (b := 1) (Or.inr rfl)
  obtain ⟨s1, e1, r1, x1⟩ := o1 ⟨hm, rfl⟩
  obtain ⟨s2, e2, r2, x2⟩ := e_X6_next r1
  have x12 := x1.tr x2
  have n2 : sn s2 = sn s := x12.2.2.2.1.1
  have h2 : Pre s2 R T n (nxt T n p) l 0 (m + 1) := h.nx r2 x12 hnx.1 h.2.2.2.1 (by omega)
  have hm2 := h2.2.2.1
  unfold Rm at hm2
  have k3 : (sk (newO s2 (15, 0) 5) (sn s2)).1 = 15 := by rw [nO_k, if_pos rfl]
  obtain ⟨s3, hs3⟩ : ∃ s3, s3 = setI (setI (newO s2 (15, 0) 5) (sn s2) 3 (iI 1)) (sn s2) 0 (iI hd) := ⟨_, rfl⟩
  have fl : Fil (sn s2) (newO s2 (15, 0) 5) s3 := by rw [hs3]; exact Fil.I.tr Fil.I
  have F1 : PF R s2 s3 1 5 := fl.pf h2.R
  have r3 : RdE s3 R T n (nxt T n p) l 0 (m + 1) := (r2.old Old.new h2.R (by have := h2.2.2.2.2.2; omega)).fil fl (by have := h2.R; omega) (by have := h2.2.2.2.2.2; omega)
  have P3 : PF R s s3 1 5 := ((x12.pf (k := 0) (m := 0)).tr F1).le (by omega) (by omega)
  have v3 : Vd s3 := F1.2.2.1 h2.2.1
  have k63 : (sk s3 R).1 = 17 := by rw [P3.2.2.2.1]; exact hk6
  have nn3 : sn s3 = sn s + 1 := by rw [fl.2.2.1.1, nO_n, n2]
  have ck3 : (sk s3 (sn s2)).1 = 15 := by rw [fl.1]; exact k3
  have ci3 : si s3 (sn s2) 0 = iI hd ∧ si s3 (sn s2) 3 = iI 1 := by
    rw [hs3]
    exact ⟨by rw [si_set, if_pos rfl, if_pos rfl], by rw [si_set, if_pos rfl, if_neg (by decide), si_set, if_pos rfl, if_pos rfl]⟩
  have cr3 : ∀ j, sr s3 (sn s2) j = none := fun j => by
    rw [hs3]
    show sr (newO s2 (15, 0) 5) (sn s2) j = none
    rw [nO_r, if_pos rfl]
  unfold F_X20_clause_52 F_X18_init
  rw [drf_s, isK_g hk6, e1, bnx_il, drf_s, isK_g (by rw [x1.1]; exact hk6), e2, bnd_s, gd_ok (okN_t (by omega) (by omega)), nam_v, isK_g k3, nam_v, isK_1, isK_g k3, nam_v, bnd_s, k_1, ← hs3]
  by_cases h3 : hd = 1
  · have Z3 : Orz s3 (sn s2) hd none 1 := ⟨ck3, ⟨ci3.1, hh⟩, ⟨ci3.2, by decide, by decide⟩, by omega, cr3 4, fun _ => h3, fun q hq => (by cases hq)⟩
    rw [if_pos (by rw [h3]), if_pos h3]
    have := e_o95 (hT := fun s p l => hT s p l (m + 1)) h r3 v3 P3 (by omega) (by omega) ⟨Nat.le_refl _, h.2.2.2.1⟩ hk6 h7 hLis hk hR (Nat.le_of_eq n2.symm) Z3
    rw [h3] at this
    exact this
  · rw [if_neg (by rw [iI_eq (by omega) (by omega)]; exact h3), if_neg h3, drf_s, isK_g k63]
    have h4 : Pre s3 R T n (nxt T n p) l 0 (m + 1) := h.pf r3 P3 hnx.1 hnx.2.1 (by omega) (by omega) h.2.2.2.1 (by omega)
    have hs := hSu _ _ _ _ k63 h4
    cases es : sumP T n V 12 0 (nxt T n p) l with
    | inl q =>
      rw [es] at hs
      obtain ⟨s5, b5, e5, f5, p5⟩ := hs
      rw [e5, bnx_ir]
      exact ⟨s5, b5, rfl, f5, (P3.tr p5).le (by omega) (by omega)⟩
    | inr w =>
      obtain ⟨g, p', l'⟩ := w
      rw [es] at hs
      obtain ⟨s5, a5, e5, r5, S5, ok5, P5, pp5, ll5⟩ := hs
      have n5 := P5.2.1.1
      have fl5 : Fil (sn s2) s5 (setR s5 (sn s2) 1 (some a5)) := Fil.R
      have P6 : PF R s (setR s5 (sn s2) 1 (some a5)) (1 + 8 * (p' - nxt T n p)) (5 + 500 * (p' - nxt T n p)) := (P3.tr P5).fil fl5 (by omega) hR0
      have hC5 : same s3 s5 (sn s2) := P5.1 (sn s2) (by omega) (by omega)
      have k65 : (sk (setR s5 (sn s2) 1 (some a5)) R).1 = 17 := by rw [P6.2.2.2.1]; exact hk6
      have r6 : RdE (setR s5 (sn s2) 1 (some a5)) R T n p' l' 0 (m + 1) := r5.fil fl5 (by omega) (by have := h.2.2.2.2.2; omega)
      have h6 : Pre (setR s5 (sn s2) 1 (some a5)) R T n p' l' 0 (m + 1) := h.pf r6 P6 (by omega) pp5.2 (by omega) (by omega) ll5.2 (by omega)
      have hnx' := nxt_r (T := T) pp5.2
      obtain ⟨w1, w2⟩ := e_X6_need r6 h6.2.1 h6.2.2.1.r8 (i := 8) (by decide)
      rw [e5, bnx_il, isK_g (by rw [hC5.1]; exact ck3), nam_v, drf_s, isK_g k65, show (1000000008 : Nat) = 1000000000 + 8 from rfl]
      show CO QOr R lo L b cs T n p l (m + 1) s _ (@ite _ (tokIs T n p' (strB 8)) (Classical.propDecidable _) (match sumP T n V 12 0 (nxt T n p') l' with
        | .inl q => .inl q
        | .inr (g', p'', l'') => timesS T n V hd (some (g, g')) p'' l'') (.inl p'))
      by_cases at8 : tokIs T n p' (strB 8)
      · obtain ⟨s7, e7, r7, x7⟩ := w1 at8
        have hw8 := tokW at8 (c := 2) (by decide) (by decide) pp5.2
        have k67 : (sk s7 R).1 = 17 := by rw [x7.1]; exact k65
        have P7 : PF R s s7 (1 + 8 * (p' - nxt T n p)) (5 + 500 * (p' - nxt T n p)) := (P6.tr (x7.pf (k := 0) (m := 0))).le (by omega) (by omega)
        have h7' : Pre s7 R T n (nxt T n p') l' 0 (m + 1) := h6.nx r7 x7 hnx'.1 ll5.2 (by omega)
        have hs2 := hSu _ _ _ _ k67 h7'
        have n7 : sn s7 = sn s5 := x7.2.2.2.1.1
        rw [if_pos at8, e7, bnx_il, drf_s, isK_g k67]
        cases eg : sumP T n V 12 0 (nxt T n p') l' with
        | inl q =>
          rw [eg] at hs2
          obtain ⟨s8, b8, e8, f8, p8⟩ := hs2
          rw [e8, bnx_ir]
          exact ⟨s8, b8, rfl, f8, (P7.tr p8).le (by omega) (by omega)⟩
        | inr w =>
          obtain ⟨g', p'', l''⟩ := w
          rw [eg] at hs2
          obtain ⟨s8, a8, e8, r8, S8, ok8, P8, pp8, ll8⟩ := hs2
          have n8 := P8.2.1.1
          have fl8 : Fil (sn s2) s8 (setR s8 (sn s2) 2 (some a8)) := Fil.R
          have P9 : PF R s (setR s8 (sn s2) 2 (some a8)) (1 + 8 * (p' - nxt T n p) + 8 * (p'' - nxt T n p')) (5 + 500 * (p' - nxt T n p) + 500 * (p'' - nxt T n p')) := (P7.tr P8).fil fl8 (by omega) hR0
          have hC7 : same (setR s5 (sn s2) 1 (some a5)) s8 (sn s2) := (show same (setR s5 (sn s2) 1 (some a5)) s7 (sn s2) from ⟨by rw [x7.1], x7.2.2.2.2 _ (by omega), by rw [x7.2.2.1], by rw [x7.2.1]⟩).tr (P8.1 (sn s2) (by omega) (by omega))
          have ck8 : (sk s8 (sn s2)).1 = 15 := by rw [hC7.1]; show (sk s5 (sn s2)).1 = 15; rw [hC5.1]; exact ck3
          have ci8 : si s8 (sn s2) = si s3 (sn s2) := by rw [hC7.2.1]; show si s5 (sn s2) = _; exact hC5.2.1
          have cr8 : ∀ j, sr s8 (sn s2) j = if j = 1 then some a5 else none := fun j => by
            rw [hC7.2.2.2, sR_r, if_pos rfl, hC5.2.2.2, cr3]
          have SA : SumAt (setR s8 (sn s2) 2 (some a8)) (sn s + 1) (sn s5) a5 (l' - l) g := by
            rw [nn3] at S5
            refine (((S5.go (fl5.kp (by omega))).go (x7.pf (k := 0) (m := 0) |> fun z => PF.kp z (by omega) (Nat.le_refl _))).go (P8.kp (by omega) (by omega))).go (fl8.kp (by omega))
          have SB : SumAt (setR s8 (sn s2) 2 (some a8)) (sn s5) (sn s8) a8 (l'' - l') g' := by
            rw [n7] at S8
            exact S8.go (fl8.kp (by omega))
          have Z9 : Orz (setR s8 (sn s2) 2 (some a8)) (sn s2) hd (some (g, g')) 1 := by
            refine ⟨ck8, ⟨by show si s8 (sn s2) 0 = _; rw [ci8]; exact ci3.1, hh⟩, ⟨by show si s8 (sn s2) 3 = _; rw [ci8]; exact ci3.2, by decide, by decide⟩, by show sn s2 < sn s8; omega, by rw [sR_r, if_pos rfl, if_neg (by decide), cr8, if_neg (by decide)], fun z => (by cases z), fun q hq => ?_⟩
            cases hq
            exact ⟨h3, ⟨ok5, ok8⟩, a5, a8, ⟨by rw [sR_r, if_pos rfl, if_neg (by decide), cr8, if_pos rfl], by rw [sR_r, if_pos rfl, if_pos rfl]⟩, SA.le (by omega) (by show sn s5 ≤ sn s8; omega) (by omega), SB.le (by omega) (Nat.le_refl _) (by omega)⟩
          rw [e8, bnx_il, isK_g ck8, nam_v]
          exact e_o95 (hT := fun s p l => hT s p l (m + 1)) h (r8.fil fl8 (by omega) (by have := h.2.2.2.2.2; omega)) (fl8.vd (P8.2.2.1 h7'.2.1)) P9 (by omega) (by omega) (by omega) hk6 h7 hLis hk hR (Nat.le_of_eq n2.symm) Z9
      · obtain ⟨s7, b7, e7, f7, p7⟩ := w2 at8
        rw [if_neg at8, e7, bnx_ir]
        exact ⟨s7, b7, rfl, f7, (P6.tr p7).le (by omega) (by omega)⟩
theorem e_X20_clause {R lo L b c : Nat} {T : Nat → Int} {n p l m : Nat} {cs : List OC} {f : Nat → Nat} {s : St} {V : VP} (hSu : ∀ s p l m, (sk s R).1 = 17 → Pre s R T n p l 0 m → SO R T n p l 0 m s (F_sumR 12 s R) (sumP T n V 12 0 p l)) (hT : ∀ s p l m, (sk s R).1 = 17 → Pre s R T n p l 0 m → TO R T n p l 0 m 28 s (F_testR 12 s R) (testP T n V 12 0 p l)) (h : Pre s R T n p l 0 m) (hm : m ≤ 12) (hk6 : (sk s R).1 = 17) (h7 : sr s R 7 = some L) (hLis : Lis QOr s lo L b c cs f) (hk : cs.length ≤ 200) (hR : R < lo) : CO QOr R lo L b cs T n p l (m + 1) s (F_clauseD s R) (ordC T n V m p l) := by
  have h1 := h.1
  have hpos := h1.pos
  have key : ∀ hd : Int, headO T n p = hd → CO QOr R lo L b cs T n p l (m + 1) s (F_X20_clause_40 s (some R) (iI hd)) (ordC T n V m p l) := fun hd he => by
    unfold F_X20_clause_40 ordC
    rw [he, k_m1, k_0, k_1]
    by_cases hb : hd = -1 ∨ m = 12
    · rw [if_pos hb]
      show Fail R n p s _ p
      have bad : ∀ (z : Int) (v : Int), (z = 0 ∨ z = 1) → ¬ (m < 12 ∧ z = 1) → Fail R n p s (F_X20_clause_52 s (some R) (iI v) (iI z) (some R)) p := fun z v hz hn => by
        obtain ⟨s1, b1, e1, f1, p1⟩ := (e_X6_begins h1 h.2.1 h.2.2.1.r8 hm hz).2 hn
        unfold F_X20_clause_52
        rw [drf_s, isK_g hk6, e1, bnx_ir]
        exact ⟨s1, b1, rfl, f1, p1⟩
      by_cases h1' : hd = -1
      · rw [if_pos (by rw [h1'])]
        exact bad 0 hd (Or.inl rfl) (by omega)
      · have hm12 : m = 12 := hb.resolve_left h1'
        have hp := headO_p hpos.1 (by rw [he]; exact h1')
        rw [he] at hp
        rw [if_neg (by rw [iI_eq (by omega) (by omega)]; exact h1')]
        exact bad 1 hd (Or.inr rfl) (by omega)
    · have h1' : hd ≠ -1 := fun z => hb (Or.inl z)
      have hp := headO_p hpos.1 (by rw [he]; exact h1')
      rw [he] at hp
      rw [if_neg hb, if_neg (by rw [iI_eq (by omega) (by omega)]; exact h1')]
      exact e_o52 hSu hT h (by omega) hk6 h7 hLis hk hR hp.2.2 ⟨hp.1, hp.2.1⟩
  unfold F_clauseD
  rw [if_pos (isK_b hk6)]
  unfold F_X20_clause
  rw [isK_g hk6, show (1000000005 : Nat) = 1000000000 + 5 from rfl, show (1000000006 : Nat) = 1000000000 + 6 from rfl, show (1000000007 : Nat) = 1000000000 + 7 from rfl, e_X6_is h1 (by decide), bnd_s, k_m1, k_0, k_1, k_2]
  by_cases a1 : tokIs T n p (strB 5)
  · rw [if_neg (by rw [bZ_i0]; exact fun z => z a1)]
    exact key 0 (by unfold headO; rw [if_pos a1])
  · rw [if_pos (by rw [bZ_i0]; exact a1), isK_g hk6, e_X6_is h1 (by decide), bnd_s]
    by_cases a2 : tokIs T n p (strB 6)
    · rw [if_neg (by rw [bZ_i0]; exact fun z => z a2)]
      exact key 2 (by unfold headO; rw [if_neg a1, if_pos a2])
    · rw [if_pos (by rw [bZ_i0]; exact a2), isK_g hk6, e_X6_is h1 (by decide), bnd_s]
      by_cases a3 : tokIs T n p (strB 7)
      · rw [if_neg (by rw [bZ_i0]; exact fun z => z a3)]
        exact key 1 (by unfold headO; rw [if_neg a1, if_neg a2, if_pos a3])
      · rw [if_pos (by rw [bZ_i0]; exact a3)]
        exact key (-1) (by unfold headO; rw [if_neg a1, if_neg a2, if_neg a3])
