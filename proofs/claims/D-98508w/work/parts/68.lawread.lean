set_option maxRecDepth 100000
/-! ===== texts: a law's clauses ===== -/
def QCl (s : St) (lo hi a : Nat) (c : DC) : Prop := (lo ≤ a ∧ a < hi) ∧ (sk s a).1 = 8 ∧ ∀ s2, Kp (fun b => lo ≤ b ∧ b < hi) s s2 → SkC s2 → ClauE s2 a c
theorem QCl_ok : QOk QCl := fun s lo hi a x h => ⟨h.1, by rw [h.2.1]; decide, fun s' hk => ⟨h.1, by rw [(hk a h.1).1]; exact h.2.1, fun s2 h2 hS => h.2.2 s2 (hk.tr h2) hS⟩⟩
/-- what reading a clause comes to -/
def CO {γ : Type} (QC : St → Nat → Nat → Nat → γ → Prop) (R lo L b : Nat) (cs : List γ) (T : Nat → Int) (n p l m' : Nat) (s : St) (x : Option ((Unit ⊕ Nat) × St)) : PR γ → Prop
  | .inl q => Fail R n p s x q
  | .inr (y, p', l') => ∃ s' b' c' f', x = some (.inl (), s') ∧ RdE s' R T n p' l' 0 m' ∧ Lis QC s' lo L b' c' (cs ++ [y]) f' ∧ (∀ z, z < sn s → z ≠ R → z ≠ L → z ≠ b → same s s' z) ∧ Tk s s' (8 * (p' - p)) (500 * (p' - p)) ∧ Vd s' ∧ (sk s' R = sk s R ∧ sr s' R = sr s R) ∧ (p < p' ∧ p' ≤ n) ∧ (l ≤ l' ∧ l' ≤ 50)
/-- the clause that is being read -/
def Clz (s : St) (C : Nat) (h : Int) (of : Option DS) : Prop := (sk s C).1 = 8 ∧ si s C 0 = iI h ∧ (0 ≤ h ∧ h ≤ 3) ∧ C < sn s ∧ sr s C 2 = none ∧ match of with
  | none => sr s C 1 = none
  | some f => dok f ∧ ∃ a, sr s C 1 = some a ∧ SumAt s (C + 1) (sn s) a 64 f
theorem Clz.go {s s' : St} {C : Nat} {h : Int} {of : Option DS} (z : Clz s C h of) (hs : ∀ x, C ≤ x → x < sn s → same s s' x) (hn : sn s ≤ sn s') : Clz s' C h of := by
  obtain ⟨z1, z2, z3, z4, z5, z6⟩ := z
  have hC := hs C (Nat.le_refl _) z4
  refine ⟨by rw [hC.1]; exact z1, by rw [hC.2.1]; exact z2, z3, by omega, by rw [hC.2.2.2]; exact z5, ?_⟩
  cases of with
  | none => show sr s' C 1 = none; rw [hC.2.2.2]; exact z6
  | some f =>
    obtain ⟨ok, a, z7, z8⟩ := z6
    exact ⟨ok, a, by rw [hC.2.2.2]; exact z7, (z8.go (fun x hx => hs x (by omega) hx.2)).le (Nat.le_refl _) hn (Nat.le_refl _)⟩
/-- the clause is put to the others -/
theorem e_c111 {R lo L b c C : Nat} {T : Nat → Int} {n p l m p0 l0 m0 q r : Nat} {cs : List DC} {f : Nat → Nat} {s s0 : St} {y : DC} (h0 : Pre s0 R T n p0 l0 0 m0) (h : RdE s R T n p l 0 m) (hv : Vd s) (hP : PF R s0 s q r) (hq : q + 8 ≤ 8 * (p - p0) ∧ r + 500 ≤ 500 * (p - p0)) (hp : p0 < p) (hl : l0 ≤ l ∧ l ≤ 50) (hk6 : (sk s0 R).1 = 6) (h7 : sr s0 R 7 = some L) (hLis : Lis QCl s0 lo L b c cs f) (hk : cs.length ≤ 200) (hR : R < lo) (hC : sn s0 ≤ C) (hy : QCl s C (sn s) C y) : CO QCl R lo L b cs T n p0 l0 m s0 (F_X7_clause_111 s (some R) (some C)) (.inr (y, p, l)) := by
  have hR0 := h0.R
  have hpos := h.pos
  have hm0 := h0.2.2.1
  have t := hP.2.1
  have hL0 := hLis.2.2.2.1
  have hb0 := hLis.2.2.2.2.1
  have hLs : Lis QCl s lo L b c cs f := hLis.go QCl_ok (fun x h1 h2 => hP.1 x h2 (by omega)) t.1
  unfold Rm at hm0
  unfold Tk at t
  obtain ⟨s', b', c', f', e, L', o', tk', v'⟩ := e_lis_add QCl_ok hLs hv hk hy (by omega) ⟨by omega, by omega⟩ (by omega) (by omega)
  have hn := tk'.1
  have sR : same s s' R := o' R (by omega) (by omega) (by omega)
  have h31 := h0.2.2.2.2.2
  have s19 : same s s' 19 := o' 19 (by omega) (fun z => by
    have k : (sk s 19).1 = 18 := by rw [z]; exact hLs.1.1
    rw [h.2.2.1] at k
    exact absurd k (by decide)) (fun z => by
    have k : (sk s 19).1 = 104 := by rw [z, hLs.1.2.2.1]
    rw [h.2.2.1] at k
    exact absurd k (by decide))
  unfold F_X7_clause_111
  rw [drf_s, isK_g (by rw [hP.2.2.2.1]; exact hk6), hP.2.2.2.2, h7, drf_s, isK_g hLs.1.1, e, bnd_s]
  refine ⟨s', b', c', f', rfl, h.same sR s19, L', fun z hz z1 z2 z3 => (hP.1 z hz z1).tr (o' z (by omega) z2 z3), (hP.2.1.tr tk').le (by omega) (by omega), v', ⟨by rw [sR.1]; exact hP.2.2.2.1, by rw [sR.2.2.2]; exact hP.2.2.2.2⟩, ⟨hp, hpos.1⟩, hl⟩
noncomputable def whenS (T : Nat → Int) (n : Nat) (V : VP) (h : Int) (of : Option DS) (p l : Nat) : PR DC := @ite _ (tokIs T n p (strB 10)) (Classical.propDecidable _) (match testP T n V 12 0 (nxt T n p) l with
    | .inl q => .inl q
    | .inr (t, p', l') => .inr ((h, of, some t), p', l')) (.inr ((h, of, none), p, l))
/-- the clause as it is told -/
theorem Clz.fin {s s2 : St} {C : Nat} {hd : Int} {of : Option DS} (z : Clz s C hd of) (hk : Kp (fun b => C ≤ b ∧ b < sn s) s s2) (hS : SkC s2) : (sk s2 C).1 = 8 ∧ si s2 C 0 = iI hd ∧ (0 ≤ hd ∧ hd ≤ 3) ∧ ((of = none → sr s2 C 1 = none) ∧ ∀ f, of = some f → ∃ b, sr s2 C 1 = some b ∧ SumE s2 b 64 f) ∧ (∀ f, of = some f → dok f) := by
  obtain ⟨z1, z2, z3, z4, z5, z6⟩ := z
  have hC := hk C ⟨Nat.le_refl _, z4⟩
  refine ⟨by rw [hC.1]; exact z1, by rw [hC.2.1]; exact z2, z3, ?_, ?_⟩
  · cases of with
    | none => exact ⟨fun _ => by rw [hC.2.2.2]; exact z6, fun f h => by cases h⟩
    | some f =>
      obtain ⟨ok, a, z7, z8⟩ := z6
      exact ⟨fun h => (by cases h), fun g h => by cases h; exact ⟨a, by rw [hC.2.2.2]; exact z7, z8.2 s2 (fun x hx => hk x ⟨by omega, hx.2⟩) hS⟩⟩
  · cases of with
    | none => intro f h; cases h
    | some f => intro g h; cases h; exact z6.1
theorem e_c94 {R lo L b c C : Nat} {T : Nat → Int} {n p l m p0 l0 m0 q r : Nat} {cs : List DC} {f : Nat → Nat} {s s0 : St} {hd : Int} {of : Option DS} {V : VP} (hV : ∀ d s p l, (sk s R).1 = 6 → Pre s R T n p l d m → VO R T n p l d m s (F_valueD s R) (V p l)) (hT : ∀ s p l, (sk s R).1 = 6 → Pre s R T n p l 0 m → TO R T n p l 0 m 28 s (F_testR 12 s R) (testP T n V 12 0 p l)) (h0 : Pre s0 R T n p0 l0 0 m0) (h : RdE s R T n p l 0 m) (hv : Vd s) (hP : PF R s0 s q r) (hq : q + 8 ≤ 8 * (p - p0) ∧ r + 500 ≤ 500 * (p - p0)) (hp : p0 < p) (hl : l0 ≤ l ∧ l ≤ 50) (hk6 : (sk s0 R).1 = 6) (h7 : sr s0 R 7 = some L) (hLis : Lis QCl s0 lo L b c cs f) (hk : cs.length ≤ 200) (hR : R < lo) (hC : sn s0 ≤ C) (hZ : Clz s C hd of) : CO QCl R lo L b cs T n p0 l0 m s0 (F_X7_clause_94 s (some R) (some C)) (whenS T n V hd of p l) := by
  have hR0 := h0.R
  have hpos := h.pos
  have hnx := nxt_r (T := T) hpos.1
  obtain ⟨s1, e1, r1, x1⟩ := e_X6_takes h (i := 10) (by decide)
  unfold tkP at r1
  have n1 : sn s1 = sn s := x1.2.2.2.1.1
  have smx1 : ∀ x, x ≠ R → same s s1 x := fun x hx => ⟨by rw [x1.1], x1.2.2.2.2 x hx, by rw [x1.2.2.1], by rw [x1.2.1]⟩
  have nsn := hP.2.1.1
  have P1 : PF R s0 s1 q r := (hP.tr (x1.pf (k := 0) (m := 0))).le (by omega) (by omega)
  have Z1 : Clz s1 C hd of := hZ.go (fun x h1 h2 => smx1 x (by omega)) (by omega)
  have k6 : (sk s R).1 = 6 := by rw [hP.2.2.2.1]; exact hk6
  have k61 : (sk s1 R).1 = 6 := by rw [x1.1]; exact k6
  unfold F_X7_clause_94 whenS
  rw [drf_s, isK_g k6, show (1000000010 : Nat) = 1000000000 + 10 from rfl, e1, bnd_s, k_0]
  by_cases a : tokIs T n p (strB 10)
  · have hw := tokW a (c := 2) (by decide) (by decide) hpos.1
    rw [if_pos a] at r1
    have h1 : Pre s1 R T n (nxt T n p) l 0 m := h0.pf r1 P1 (by omega) hnx.2.1 (by omega) (by omega) hl.2 (by omega)
    have ht := hT s1 _ _ k61 h1
    rw [if_neg (by rw [bZ_i0]; exact fun z => z a), if_pos a, drf_s, isK_g k61]
    cases et : testP T n V 12 0 (nxt T n p) l with
    | inl z =>
      rw [et] at ht
      obtain ⟨s2, b2, e2, f2, p2⟩ := ht
      rw [e2, bnx_ir]
      exact ⟨s2, b2, rfl, f2, (P1.tr p2).le (by omega) (by omega)⟩
    | inr w =>
      obtain ⟨t, p2, l2⟩ := w
      rw [et] at ht
      obtain ⟨s2, x, e2, r2, X2, P2, pp2, ll2⟩ := ht
      have n2 := P2.2.1.1
      have Z2 : Clz s2 C hd of := Z1.go (fun x h1 h2 => P2.1 x h2 (by omega)) n2
      have fl : Fil C s2 (setR s2 C 2 (some x)) := Fil.R
      have P3 : PF R s0 (setR s2 C 2 (some x)) (q + 8 * (p2 - nxt T n p)) (r + 500 * (p2 - nxt T n p)) := (P1.tr P2).fil fl hC hR0
      have v2 : Vd s2 := P2.2.2.1 h1.2.1
      have hC1 : C < sn s1 := Z1.2.2.2.1
      rw [e2, bnx_il, drf_s, isK_g Z2.1, nam_v]
      refine e_c111 h0 (r2.fil fl (by omega) (fun z => by have := h0.2.2.2.2.2; omega)) (fl.vd v2) P3 ⟨by omega, by omega⟩ (by omega) (by omega) hk6 h7 hLis hk hR hC ⟨⟨Nat.le_refl _, by show C < sn s2; omega⟩, Z2.1, fun s5 hk5 hS5 => ?_⟩
      have hCC := hk5 C ⟨Nat.le_refl _, by show C < sn s2; omega⟩
      obtain ⟨c1, c2, c3, c4, c5, c6⟩ := Z2
      -- the sum's tree stays
      have hsum : (of = none → sr s5 C 1 = none) ∧ ∀ f, of = some f → ∃ b, sr s5 C 1 = some b ∧ SumE s5 b 64 f := by
        have e51 : sr s5 C 1 = sr s2 C 1 := by rw [hCC.2.2.2, sR_r, if_pos rfl, if_neg (by decide)]
        cases of with
        | none => exact ⟨fun _ => by rw [e51]; exact c6, fun f h => by cases h⟩
        | some f =>
          obtain ⟨ok, a', z7, z8⟩ := c6
          exact ⟨fun h => (by cases h), fun g h => by cases h; exact ⟨a', by rw [e51]; exact z7, (z8.go (fl.kp (by omega))).2 s5 (fun x hx => hk5 x ⟨by omega, hx.2⟩) hS5⟩⟩
      have hok : cok (hd, of, some t) := by
        intro f hf
        cases of with
        | none => cases hf
        | some g => cases hf; exact c6.1
      have htest : ∃ b, sr s5 C 2 = some b ∧ TestE s5 b 40 t := ⟨x, by rw [hCC.2.2.2, sR_r, if_pos rfl, if_pos rfl], ((X2.go (fl.kp (by omega))).2.2 s5 (fun y hy => hk5 y ⟨by omega, hy.2⟩) hS5).le (by omega)⟩
      refine ⟨by rw [hCC.1]; exact c1, by rw [hCC.2.1]; exact c2, c3, ?_, htest, hok⟩
      cases of with
      | none => exact hsum.1 rfl
      | some f => exact hsum.2 f rfl
  · rw [if_neg a] at r1
    have v1 : Vd s1 := x1.vd hv
    rw [if_pos (by rw [bZ_i0]; exact a), if_neg a]
    refine e_c111 h0 r1 v1 P1 hq hp hl hk6 h7 hLis hk hR hC ⟨⟨Nat.le_refl _, Z1.2.2.2.1⟩, Z1.1, fun s5 hk5 hS5 => ?_⟩
    have z := Z1.fin hk5 hS5
    have hCC := hk5 C ⟨Nat.le_refl _, Z1.2.2.2.1⟩
    refine ⟨z.1, z.2.1, z.2.2.1, ?_, (by show sr s5 C 2 = none; rw [hCC.2.2.2]; exact Z1.2.2.2.2.1), z.2.2.2.2⟩
    cases of with
    | none => exact z.2.2.2.1.1 rfl
    | some f => exact z.2.2.2.1.2 f rfl
noncomputable def headL (T : Nat → Int) (n p : Nat) : Int := @ite _ (tokIs T n p (strB 27)) (Classical.propDecidable _) 0 (@ite _ (tokIs T n p (strB 28)) (Classical.propDecidable _) 1 (@ite _ (tokIs T n p (strB 29)) (Classical.propDecidable _) 2 (@ite _ (tokIs T n p (strB 30)) (Classical.propDecidable _) 3 (-1))))
noncomputable def lawC (T : Nat → Int) (n : Nat) (V : VP) (m p l : Nat) : PR DC :=
  if headL T n p = -1 ∨ m = 12 then .inl p
  else if headL T n p = 3 then whenS T n V 3 none (nxt T n p) l
  else match sumP T n V 12 0 (nxt T n p) l with
    | .inl q => .inl q
    | .inr (f, p', l') => whenS T n V (headL T n p) (some f) p' l'
theorem headL_p {T : Nat → Int} {n p : Nat} (hp : p ≤ n) (h : headL T n p ≠ -1) : p + 4 ≤ n ∧ p + 4 ≤ nxt T n p ∧ (0 ≤ headL T n p ∧ headL T n p ≤ 3) := by
  unfold headL at h ⊢
  split
  · rename_i a
    have := tokW a (c := 5) (by decide) (by decide) hp
    omega
  · split
    · rename_i a
      have := tokW a (c := 5) (by decide) (by decide) hp
      omega
    · split
      · rename_i a
        have := tokW a (c := 4) (by decide) (by decide) hp
        omega
      · split
        · rename_i a
          have := tokW a (c := 4) (by decide) (by decide) hp
          omega
        · rename_i a1 a2 a3 a4
          rw [if_neg a1, if_neg a2, if_neg a3, if_neg a4] at h
          exact absurd rfl h
theorem e_c65 {R lo L b c : Nat} {T : Nat → Int} {n p l m : Nat} {cs : List DC} {f : Nat → Nat} {s : St} {V : VP} (hV : ∀ d s p l m, (sk s R).1 = 6 → Pre s R T n p l d m → VO R T n p l d m s (F_valueD s R) (V p l)) (hSu : ∀ s p l m, (sk s R).1 = 6 → Pre s R T n p l 0 m → SO R T n p l 0 m s (F_sumR 12 s R) (sumP T n V 12 0 p l)) (hT : ∀ s p l m, (sk s R).1 = 6 → Pre s R T n p l 0 m → TO R T n p l 0 m 28 s (F_testR 12 s R) (testP T n V 12 0 p l)) (h : Pre s R T n p l 0 m) (hm : m < 12) (hk6 : (sk s R).1 = 6) (h7 : sr s R 7 = some L) (hLis : Lis QCl s lo L b c cs f) (hk : cs.length ≤ 200) (hR : R < lo) {hd : Int} (hh : 0 ≤ hd ∧ hd ≤ 3) (hpw : p + 4 ≤ n ∧ p + 4 ≤ nxt T n p) : CO QCl R lo L b cs T n p l (m + 1) s (F_X7_clause_65 s (some R) (iI hd) (iI 1) (some R)) (if hd = 3 then whenS T n V 3 none (nxt T n p) l else match sumP T n V 12 0 (nxt T n p) l with
    | .inl q => .inl q
    | .inr (f, p', l') => whenS T n V hd (some f) p' l') := by
  have h1 := h.1
  have hR0 := h.R
  have hpos := h1.pos
  have hnx := nxt_r (T := T) hpos.1
  have hm0 := h.2.2.1
  unfold Rm at hm0
  obtain ⟨o1, -⟩ := e_X6_begins h1 h.2.1 h.2.2.1.r8 (by omega) (b := 1) (Or.inr rfl)
  obtain ⟨s1, e1, r1, x1⟩ := o1 ⟨hm, rfl⟩
  obtain ⟨s2, e2, r2, x2⟩ := e_X6_next r1
  have x12 := x1.tr x2
  have n2 : sn s2 = sn s := x12.2.2.2.1.1
  have h2 : Pre s2 R T n (nxt T n p) l 0 (m + 1) := h.nx r2 x12 hnx.1 h.2.2.2.1 (by omega)
  have hm2 := h2.2.2.1
  unfold Rm at hm2
  have k62 : (sk s2 R).1 = 6 := by rw [x12.1]; exact hk6
  have k3 : (sk (newO s2 (8, 0) 3) (sn s2)).1 = 8 := by rw [nO_k, if_pos rfl]
  have fl : Fil (sn s2) (newO s2 (8, 0) 3) (setI (newO s2 (8, 0) 3) (sn s2) 0 (iI hd)) := Fil.I
  have F1 : PF R s2 (setI (newO s2 (8, 0) 3) (sn s2) 0 (iI hd)) 1 3 := fl.pf h2.R
  have r3 : RdE (setI (newO s2 (8, 0) 3) (sn s2) 0 (iI hd)) R T n (nxt T n p) l 0 (m + 1) := (r2.old Old.new h2.R (by have := h2.2.2.2.2.2; omega)).fil fl (by have := h2.R; omega) (by have := h2.2.2.2.2.2; omega)
  have P3 : PF R s (setI (newO s2 (8, 0) 3) (sn s2) 0 (iI hd)) 1 3 := ((x12.pf (k := 0) (m := 0)).tr F1).le (by omega) (by omega)
  have v3 : Vd (setI (newO s2 (8, 0) 3) (sn s2) 0 (iI hd)) := h2.2.1.new (kd := (8, 0)) (n := 3)
  have k63 : (sk (setI (newO s2 (8, 0) 3) (sn s2) 0 (iI hd)) R).1 = 6 := by rw [P3.2.2.2.1]; exact hk6
  have Z3 : Clz (setI (newO s2 (8, 0) 3) (sn s2) 0 (iI hd)) (sn s2) hd none := ⟨k3, by rw [si_set, if_pos rfl, if_pos rfl], hh, Nat.lt_succ_self _, by show sr (newO s2 (8, 0) 3) (sn s2) 2 = none; rw [nO_r, if_pos rfl], by show sr (newO s2 (8, 0) 3) (sn s2) 1 = none; rw [nO_r, if_pos rfl]⟩
  unfold F_X7_clause_65 F_X9_init
  rw [drf_s, isK_g hk6, e1, bnx_il, drf_s, isK_g (by rw [x1.1]; exact hk6), e2, bnd_s, gd_ok (okN_t (by omega) (by omega)), nam_v, isK_g k3, nam_v, bnd_s, k_3]
  by_cases h3 : hd = 3
  · rw [if_pos (by rw [h3]), if_pos h3]
    have := e_c94 (hV := fun d s p l => hV d s p l (m + 1)) (hT := fun s p l => hT s p l (m + 1)) h r3 v3 P3 (by omega) (by omega) ⟨Nat.le_refl _, h.2.2.2.1⟩ hk6 h7 hLis hk hR (Nat.le_of_eq n2.symm) Z3
    rw [h3] at this ⊢
    exact this
  · rw [if_neg (by rw [iI_eq (by omega) (by omega)]; exact h3), if_neg h3, drf_s, isK_g k63]
    have h4 : Pre (setI (newO s2 (8, 0) 3) (sn s2) 0 (iI hd)) R T n (nxt T n p) l 0 (m + 1) := h.pf r3 P3 hnx.1 hnx.2.1 (by omega) (by omega) h.2.2.2.1 (by omega)
    have hs := hSu _ _ _ _ k63 h4
    cases es : sumP T n V 12 0 (nxt T n p) l with
    | inl q =>
      rw [es] at hs
      obtain ⟨s5, b5, e5, f5, p5⟩ := hs
      rw [e5, bnx_ir]
      exact ⟨s5, b5, rfl, f5, (P3.tr p5).le (by omega) (by omega)⟩
    | inr w =>
      obtain ⟨g, p', l'⟩ := w
      rw [es] at hs
      obtain ⟨s5, a5, e5, r5, S5, ok5, P5, pp5, ll5⟩ := hs
      have n5 := P5.2.1.1
      have nn3 : sn (setI (newO s2 (8, 0) 3) (sn s2) 0 (iI hd)) = sn s + 1 := by show sn s2 + 1 = _; omega
      have fl5 : Fil (sn s2) s5 (setR s5 (sn s2) 1 (some a5)) := Fil.R
      have P6 : PF R s (setR s5 (sn s2) 1 (some a5)) (1 + 8 * (p' - nxt T n p)) (3 + 500 * (p' - nxt T n p)) := (P3.tr P5).fil fl5 (by omega) hR0
      have hC5 : same (setI (newO s2 (8, 0) 3) (sn s2) 0 (iI hd)) s5 (sn s2) := P5.1 (sn s2) (by omega) (by omega)
      have Z6 : Clz (setR s5 (sn s2) 1 (some a5)) (sn s2) hd (some g) := by
        refine ⟨by show (sk s5 (sn s2)).1 = 8; rw [hC5.1]; exact k3, by show si s5 (sn s2) 0 = _; rw [hC5.2.1, si_set, if_pos rfl, if_pos rfl], hh, by show sn s2 < sn s5; omega, ?_, ok5, a5, by rw [sR_r, if_pos rfl, if_pos rfl], ?_⟩
        · rw [sR_r, if_pos rfl, if_neg (by decide), hC5.2.2.2]
          exact Z3.2.2.2.2.1
        · have := S5.go (fl5.kp (by omega))
          rw [nn3] at this
          exact this.le (by omega) (Nat.le_refl _) (by omega)
      rw [e5, bnx_il, isK_g (by rw [hC5.1]; exact k3), nam_v]
      exact e_c94 (hV := fun d s p l => hV d s p l (m + 1)) (hT := fun s p l => hT s p l (m + 1)) h (r5.fil fl5 (by omega) (by have := h.2.2.2.2.2; omega)) (fl5.vd (P5.2.2.1 v3)) P6 (by omega) (by omega) (by omega) hk6 h7 hLis hk hR (Nat.le_of_eq n2.symm) Z6
theorem e_X7_clause {R lo L b c : Nat} {T : Nat → Int} {n p l m : Nat} {cs : List DC} {f : Nat → Nat} {s : St} {V : VP} (hV : ∀ d s p l m, (sk s R).1 = 6 → Pre s R T n p l d m → VO R T n p l d m s (F_valueD s R) (V p l)) (hSu : ∀ s p l m, (sk s R).1 = 6 → Pre s R T n p l 0 m → SO R T n p l 0 m s (F_sumR 12 s R) (sumP T n V 12 0 p l)) (hT : ∀ s p l m, (sk s R).1 = 6 → Pre s R T n p l 0 m → TO R T n p l 0 m 28 s (F_testR 12 s R) (testP T n V 12 0 p l)) (h : Pre s R T n p l 0 m) (hm : m ≤ 12) (hk6 : (sk s R).1 = 6) (h7 : sr s R 7 = some L) (hLis : Lis QCl s lo L b c cs f) (hk : cs.length ≤ 200) (hR : R < lo) : CO QCl R lo L b cs T n p l (m + 1) s (F_clauseD s R) (lawC T n V m p l) := by
  have h1 := h.1
  have hpos := h1.pos
  have key : ∀ hd : Int, headL T n p = hd → CO QCl R lo L b cs T n p l (m + 1) s (F_X7_clause_53 s (some R) (iI hd)) (lawC T n V m p l) := fun hd he => by
    unfold F_X7_clause_53 lawC
    rw [he, k_m1, k_0, k_1]
    by_cases hb : hd = -1 ∨ m = 12
    · rw [if_pos hb]
      show Fail R n p s _ p
      have bad : ∀ (z : Int) (v : Int), (z = 0 ∨ z = 1) → ¬ (m < 12 ∧ z = 1) → Fail R n p s (F_X7_clause_65 s (some R) (iI v) (iI z) (some R)) p := fun z v hz hn => by
        obtain ⟨s1, b1, e1, f1, p1⟩ := (e_X6_begins h1 h.2.1 h.2.2.1.r8 hm hz).2 hn
        unfold F_X7_clause_65
        rw [drf_s, isK_g hk6, e1, bnx_ir]
        exact ⟨s1, b1, rfl, f1, p1⟩
      by_cases h1' : hd = -1
      · rw [if_pos (by rw [h1'])]
        exact bad 0 hd (Or.inl rfl) (by omega)
      · have hm12 : m = 12 := hb.resolve_left h1'
        have hp := headL_p hpos.1 (by rw [he]; exact h1')
        rw [he] at hp
        rw [if_neg (by rw [iI_eq (by omega) (by omega)]; exact h1')]
        exact bad 1 hd (Or.inr rfl) (by omega)
    · have h1' : hd ≠ -1 := fun z => hb (Or.inl z)
      have hp := headL_p hpos.1 (by rw [he]; exact h1')
      rw [he] at hp
      rw [if_neg hb, if_neg (by rw [iI_eq (by omega) (by omega)]; exact h1')]
      exact e_c65 hV hSu hT h (by omega) hk6 h7 hLis hk hR hp.2.2 ⟨hp.1, hp.2.1⟩
  unfold F_clauseD
  rw [if_neg (by rw [isK_n hk6 (by decide)]; decide), if_pos (isK_b hk6)]
  unfold F_X7_clause
  rw [isK_g hk6, show (1000000027 : Nat) = 1000000000 + 27 from rfl, show (1000000028 : Nat) = 1000000000 + 28 from rfl, show (1000000029 : Nat) = 1000000000 + 29 from rfl, show (1000000030 : Nat) = 1000000000 + 30 from rfl, e_X6_is h1 (by decide), bnd_s, k_m1, k_0, k_1, k_2, k_3]
  by_cases a1 : tokIs T n p (strB 27)
  · rw [if_neg (by rw [bZ_i0]; exact fun z => z a1)]
    exact key 0 (by unfold headL; rw [if_pos a1])
  · rw [if_pos (by rw [bZ_i0]; exact a1), isK_g hk6, e_X6_is h1 (by decide), bnd_s]
    by_cases a2 : tokIs T n p (strB 28)
    · rw [if_neg (by rw [bZ_i0]; exact fun z => z a2)]
      exact key 1 (by unfold headL; rw [if_neg a1, if_pos a2])
    · rw [if_pos (by rw [bZ_i0]; exact a2), isK_g hk6, e_X6_is h1 (by decide), bnd_s]
      by_cases a3 : tokIs T n p (strB 29)
      · rw [if_neg (by rw [bZ_i0]; exact fun z => z a3)]
        exact key 2 (by unfold headL; rw [if_neg a1, if_neg a2, if_pos a3])
      · rw [if_pos (by rw [bZ_i0]; exact a3), isK_g hk6, e_X6_is h1 (by decide), bnd_s]
        by_cases a4 : tokIs T n p (strB 30)
        · rw [if_neg (by rw [bZ_i0]; exact fun z => z a4)]
          exact key 3 (by unfold headL; rw [if_neg a1, if_neg a2, if_neg a3, if_pos a4])
        · rw [if_pos (by rw [bZ_i0]; exact a4)]
          exact key (-1) (by unfold headL; rw [if_neg a1, if_neg a2, if_neg a3, if_neg a4])
