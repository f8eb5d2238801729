set_option maxRecDepth 100000
/-! ===== texts: sums ===== -/
def SumAt (s : St) (lo hi a dep : Nat) (f : DS) : Prop := (lo ≤ a ∧ a < hi) ∧ ∀ s2, Kp (fun b => lo ≤ b ∧ b < hi) s s2 → SkC s2 → SumE s2 a dep f
theorem SumE.le {s : St} {a d d' : Nat} {f : DS} (h : SumE s a d f) (hd : d ≤ d') : SumE s a d' f := fun n hn v hv => h n (by omega) v hv
theorem SumAt.le {s : St} {lo hi a dep lo' hi' dep' : Nat} {f : DS} (h : SumAt s lo hi a dep f) (h1 : lo' ≤ lo) (h2 : hi ≤ hi') (h3 : dep ≤ dep') : SumAt s lo' hi' a dep' f := ⟨⟨by have := h.1; omega, by have := h.1; omega⟩, fun s2 hk hS => (h.2 s2 (hk.le fun b hb => ⟨by omega, by omega⟩) hS).le h3⟩
theorem SumAt.go {s s' : St} {lo hi a dep : Nat} {f : DS} (h : SumAt s lo hi a dep f) (hk : Kp (fun b => lo ≤ b ∧ b < hi) s s') : SumAt s' lo hi a dep f := ⟨h.1, fun s2 h2 hS => h.2 s2 (hk.tr h2) hS⟩
theorem PF.kp {R : Nat} {s s' : St} {k m lo hi : Nat} (h : PF R s s' k m) (hR : R < lo) (hh : hi ≤ sn s) : Kp (fun b => lo ≤ b ∧ b < hi) s s' := fun b hb => h.1 b (by omega) (by omega)
theorem Fil.kp {a lo hi : Nat} {s s' : St} (h : Fil a s s') (ha : ¬ (lo ≤ a ∧ a < hi)) : Kp (fun b => lo ≤ b ∧ b < hi) s s' := fun b hb => by
  have e : b ≠ a := fun z => ha (by rw [← z]; exact hb)
  exact ⟨by rw [h.1], (h.2.2.2 b e).1, by rw [h.2.1], (h.2.2.2 b e).2⟩
theorem Fil.vd {a : Nat} {s s' : St} (h : Fil a s s') (v : Vd s) : Vd s' := by
  unfold Vd
  rw [h.1, h.2.2.1.1]
  exact v
/-- cells that came after s are filled -/
theorem PF.fil {R a : Nat} {s s1 s2 : St} {k m : Nat} (h : PF R s s1 k m) (f : Fil a s1 s2) (ha : sn s ≤ a) (hR : R < sn s) : PF R s s2 k m := by
  obtain ⟨h1, ⟨a1, a2, a3, a4, a5, a6⟩, h3, h4, h5⟩ := h
  obtain ⟨f1, f2, ⟨f3, f4, f5, f6⟩, f7⟩ := f
  refine ⟨fun x hx hS => ?_, ⟨by omega, by omega, by omega, by omega, by omega, by omega⟩, fun v => ?_, by rw [f1]; exact h4, by rw [(f7 R (by omega)).2]; exact h5⟩
  · have q := h1 x hx hS
    exact ⟨by rw [f1]; exact q.1, by rw [(f7 x (by omega)).1]; exact q.2.1, by rw [f2]; exact q.2.2.1, by rw [(f7 x (by omega)).2]; exact q.2.2.2⟩
  · have := h3 v
    unfold Vd
    rw [f1, f3]
    exact this
theorem RdE.fil {s s' : St} {a R : Nat} {T : Nat → Int} {n p l d m : Nat} (h : RdE s R T n p l d m) (f : Fil a s s') (h1 : a ≠ R) (h2 : a ≠ 19) : RdE s' R T n p l d m := by
  obtain ⟨p1, p2, p3, p4, ⟨p5, p6, p7, p8, p9, p10⟩, p11, p12⟩ := h
  obtain ⟨f1, f2, -, f7⟩ := f
  have e := f7 R (fun z => h1 z.symm)
  refine ⟨?_, by rw [e.2]; exact p2, by rw [f1]; exact p3, fun k hk => by rw [(f7 19 (fun z => h2 z.symm)).1]; exact p4 k hk, by rw [e.1]; exact ⟨p5, p6, p7, p8, p9, p10⟩, p11, p12⟩
  unfold isRd isK at p1 ⊢
  rw [f1]
  exact p1
theorem RdE.old {s s' : St} {R : Nat} {T : Nat → Int} {n p l d m : Nat} (h : RdE s R T n p l d m) (f : Old s s') (h1 : R < sn s) (h2 : 19 < sn s) : RdE s' R T n p l d m := by
  obtain ⟨p1, p2, p3, p4, ⟨p5, p6, p7, p8, p9, p10⟩, p11, p12⟩ := h
  have e := f R h1
  refine ⟨?_, by rw [e.2.2.2]; exact p2, by rw [(f 19 h2).1]; exact p3, fun k hk => by rw [(f 19 h2).2.1]; exact p4 k hk, by rw [e.2.1]; exact ⟨p5, p6, p7, p8, p9, p10⟩, p11, p12⟩
  unfold isRd isK at p1 ⊢
  rw [e.1]
  exact p1
/-- what a reading function asks (the text's place 1000 tells the reader's kind) -/
def Pre (s : St) (R : Nat) (T : Nat → Int) (n p l d m : Nat) : Prop := RdE s R T n p l d m ∧ Vd s ∧ Rm s n p ∧ l ≤ 50 ∧ d ≤ 8 ∧ (31 ≤ sn s ∧ ((sk s R).1 : Int) = T 1000)
theorem Pre.R {s : St} {R : Nat} {T : Nat → Int} {n p l d m : Nat} (h : Pre s R T n p l d m) : R < sn s := h.1.lt h.2.1
theorem Pre.nx {s s' : St} {R : Nat} {T : Nat → Int} {n p l d m p' l' d' m' : Nat} (h : Pre s R T n p l d m) (h' : RdE s' R T n p' l' d' m') (x : Nx R s s') (hp : p ≤ p') (hl : l' ≤ 50) (hd : d' ≤ 8) : Pre s' R T n p' l' d' m' := ⟨h', x.vd h.2.1, h.2.2.1.nx x hp, hl, hd, by rw [x.2.2.2.1.1, x.1]; exact h.2.2.2.2.2⟩
theorem Pre.pf {s s' : St} {R : Nat} {T : Nat → Int} {n p l d m p' l' d' m' k q : Nat} (h : Pre s R T n p l d m) (h' : RdE s' R T n p' l' d' m') (f : PF R s s' k q) (hp : p ≤ p') (hp2 : p' ≤ n) (h1 : k ≤ 8 * (p' - p)) (h2 : q ≤ 500 * (p' - p)) (hl : l' ≤ 50) (hd : d' ≤ 8) : Pre s' R T n p' l' d' m' := ⟨h', f.2.2.1 h.2.1, h.2.2.1.go f hp hp2 h1 h2, hl, hd, by have := f.2.1.1; have := h.2.2.2.2.2; omega, by rw [f.2.2.2.1]; exact h.2.2.2.2.2.2⟩
/-- the spec's outcome for the values' words -/
abbrev VR : Type := Nat ⊕ (Option Nat × Nat × Nat)
def VO (R : Nat) (T : Nat → Int) (n p l d m : Nat) (s : St) (x : Option ((Int32 ⊕ Nat) × St)) : VR → Prop
  | .inl q => Fail R n p s x q
  | .inr (none, _, _) => x = some (.inl (iI (-1)), s)
  | .inr (some k, p', l') => ∃ s', x = some (.inl (iI k), s') ∧ RdE s' R T n p' l' d m ∧ Nx R s s' ∧ (p < p' ∧ p' ≤ n) ∧ (l' = l + 1 ∧ l' ≤ 50) ∧ k < 15
def SO (R : Nat) (T : Nat → Int) (n p l d m : Nat) (s : St) (x : Option ((Option Nat ⊕ Nat) × St)) : PR DS → Prop
  | .inl q => Fail R n p s x q
  | .inr (f, p', l') => ∃ s' a, x = some (.inl (some a), s') ∧ RdE s' R T n p' l' d m ∧ SumAt s' (sn s) (sn s') a (l' - l) f ∧ dok f ∧ PF R s s' (8 * (p' - p)) (500 * (p' - p)) ∧ (p < p' ∧ p' ≤ n) ∧ (l < l' ∧ l' ≤ 50)
abbrev VP : Type := Nat → Nat → VR
noncomputable def partS (T : Nat → Int) (n : Nat) (V : VP) (rec : Nat → Nat → Nat → PR DS) (d p l : Nat) : PR DS :=
  @ite _ (tokIs T n p (strB 11)) (Classical.propDecidable _)
    (if d = 8 then .inl p else match rec (d + 1) (nxt T n p) l with
      | .inl q => .inl q
      | .inr (f, p', l') => @ite _ (tokIs T n p' (strB 12)) (Classical.propDecidable _) (.inr (f, nxt T n p', l')) (.inl p'))
    (@ite _ (isD T n p) (Classical.propDecidable _)
      (if l = 50 then .inl p else @ite _ (numP T n p 0 1000) (Classical.propDecidable _) (.inr (dNum (numZ T n p), nxt T n p, l + 1)) (.inl p))
      (match V p l with
        | .inl q => .inl q
        | .inr (none, _, _) => .inl p
        | .inr (some k, p', l') => .inr (dVal k, p', l')))
def mulOp (T : Nat → Int) (n p : Nat) : Prop := tokIs T n p (strB 13) ∨ tokIs T n p (strB 14) ∨ tokIs T n p (strB 15)
def addOp (T : Nat → Int) (n p : Nat) : Prop := tokIs T n p (strB 16) ∨ tokIs T n p (strB 17)
noncomputable def loopS (op : Nat → Prop) (T : Nat → Int) (n : Nat) (next : Nat → Nat → Nat → PR DS) : Nat → DS → Nat → Nat → Nat → PR DS
  | 0, _, _, p, _ => .inl p
  | k + 1, f, d, p, l => @ite _ (op p) (Classical.propDecidable _) (match next d (nxt T n p) l with
      | .inl q => .inl q
      | .inr (g, p', l') => loopS op T n next k (dTwo (T p) f g) d p' l') (.inr (f, p, l))
noncomputable def chainS (op : Nat → Prop) (T : Nat → Int) (n : Nat) (next : Nat → Nat → Nat → PR DS) (d p l : Nat) : PR DS := match next d p l with
  | .inl q => .inl q
  | .inr (f, p', l') => loopS op T n next 401 f d p' l'
noncomputable def termS (T : Nat → Int) (n : Nat) (V : VP) (rec : Nat → Nat → Nat → PR DS) : Nat → Nat → Nat → PR DS := chainS (mulOp T n) T n (partS T n V rec)
noncomputable def sumS (T : Nat → Int) (n : Nat) (V : VP) (rec : Nat → Nat → Nat → PR DS) : Nat → Nat → Nat → PR DS := chainS (addOp T n) T n (termS T n V rec)
noncomputable def sumP (T : Nat → Int) (n : Nat) (V : VP) : Nat → Nat → Nat → Nat → PR DS
  | 0, _, p, _ => .inl p
  | k + 1, d, p, l => sumS T n V (sumP T n V k) d p l
/-- a node for a number, a value -/
theorem e_leaf_node {s s' : St} {a : Nat} {kd : Kd} (h : Fil a s s') (hk : sk s a = kd) : (sk s' a) = kd := by rw [h.1]; exact hk
theorem e_X6_part {recS : St → Nat → Option ((Option Nat ⊕ Nat) × St)} {R : Nat} {T : Nat → Int} {n m : Nat} {V : VP} {rec : Nat → Nat → Nat → PR DS} {d : Nat}
    (hrec : d < 8 → ∀ s p l, Pre s R T n p l (d + 1) m → SO R T n p l (d + 1) m s (recS s R) (rec (d + 1) p l))
    (hV : ∀ s p l, Pre s R T n p l d m → VO R T n p l d m s (F_valueD s R) (V p l)) : ∀ s p l, Pre s R T n p l d m → SO R T n p l d m s (F_X6_part recS s R) (partS T n V rec d p l) := by
  intro s p l h
  obtain ⟨h1, hv, hm, hl, hd, h31⟩ := h
  have h : Pre s R T n p l d m := ⟨h1, hv, hm, hl, hd, h31⟩
  have hp := h1.pos
  have hR := h.R
  have hnx := nxt_r (T := T) hp.1
  unfold partS F_X6_part
  rw [isRd_g h1.1, show (1000000011 : Nat) = 1000000000 + 11 from rfl, e_X6_is h1 (by decide), bnd_s, k_0]
  by_cases a1 : tokIs T n p (strB 11)
  · have hlt : p < n := by
      have := a1.1
      have ht := tkE_r (T := T) hp.1
      have : (strB 11).length = 1 := rfl
      omega
    rw [if_neg (by rw [bZ_i0]; exact fun z => z a1), if_pos a1, isRd_g h1.1]
    obtain ⟨o1, o2⟩ := e_X6_opens h1 hv hm.r8 hd
    by_cases d8 : d = 8
    · rw [if_pos d8]
      obtain ⟨s1, b1, e1, f1, p1⟩ := o2 d8
      rw [e1, bnx_ir]
      exact ⟨s1, b1, rfl, f1, p1⟩
    · obtain ⟨s1, e1, r1, x1⟩ := o1 (by omega)
      rw [if_neg d8, e1, bnx_il, isRd_g r1.1]
      have h2 : Pre s1 R T n (nxt T n p) l (d + 1) m := h.nx r1 x1 hnx.1 hl (by omega)
      have hr := hrec (by omega) s1 _ _ h2
      cases er : rec (d + 1) (nxt T n p) l with
      | inl q =>
        rw [er] at hr
        obtain ⟨s2, b2, e2, f2, p2⟩ := hr
        rw [e2, bnx_ir]
        exact ⟨s2, b2, rfl, f2, ((x1.pf (k := 0) (m := 0)).tr p2).le (by omega) (by omega)⟩
      | inr w =>
        obtain ⟨f, p', l'⟩ := w
        rw [er] at hr
        obtain ⟨s2, a2, e2, r2, S2, ok2, P2, pp2, ll2⟩ := hr
        have h3 : Pre s2 R T n p' l' (d + 1) m := h2.pf r2 P2 (by omega) pp2.2 (Nat.le_refl _) (Nat.le_refl _) ll2.2 (by omega)
        have hnx2 := nxt_r (T := T) pp2.2
        rw [e2, bnx_il, isRd_g r2.1, show (1000000012 : Nat) = 1000000000 + 12 from rfl]
        obtain ⟨n1, n2⟩ := e_X6_need r2 h3.2.1 h3.2.2.1.r8 (i := 12) (by decide)
        have P02 : PF R s s2 (8 * (p' - p)) (500 * (p' - p)) := ((x1.pf (k := 0) (m := 0)).tr P2).le (by omega) (by omega)
        show SO R T n p l d m s _ (@ite _ (tokIs T n p' (strB 12)) (Classical.propDecidable _) (.inr (f, nxt T n p', l')) (.inl p'))
        by_cases a2' : tokIs T n p' (strB 12)
        · obtain ⟨s3, e3, r3, x3⟩ := n1 a2'
          have n3 := x3.2.2.2.1.1
          have n13 : sn s1 = sn s := x1.2.2.2.1.1
          rw [if_pos a2', e3, bnx_il, isRd_g r3.1, isRd_g r3.1, nam_v]
          have xc : Nx R s2 (setI s3 R 6 (si s3 R 6 - 1)) := x3.tr Nx.set
          refine ⟨_, a2, rfl, e_X6_closes r3, ?_, ok2, (P02.tr (xc.pf (k := 0) (m := 0))).le (by omega) (by omega), ⟨by omega, hnx2.2.1⟩, ll2⟩
          have S3 := S2.go (PF.kp (xc.pf (k := 0) (m := 0)) (by omega) (Nat.le_refl _))
          exact S3.le (by omega) (by show sn s2 ≤ sn s3; omega) (Nat.le_refl _)
        · obtain ⟨s3, b3, e3, f3, p3⟩ := n2 a2'
          rw [if_neg a2', e3, bnx_ir]
          exact ⟨s3, b3, rfl, f3, (P02.tr p3).le (by omega) (by omega)⟩
  · rw [if_pos (by rw [bZ_i0]; exact a1), if_neg a1, isRd_g h1.1, isRd_g h1.1, h1.2.2.2.2.1.2.2.1, k_48, k_57, h1.b.in (by omega) (by omega) (by omega), bnd_s]
    by_cases a2 : isD T n p
    · have hlt : p < n := a2.1
      rw [if_neg (by rw [bZ_i0]; exact fun z => z a2), if_pos a2, isRd_g h1.1]
      obtain ⟨o1, o2⟩ := e_X6_leaf h1 hv hm.r8 hl
      by_cases l50 : l = 50
      · obtain ⟨s1, b1, e1, f1, p1⟩ := o2 l50
        rw [if_pos l50, e1, bnx_ir]
        exact ⟨s1, b1, rfl, f1, p1⟩
      · obtain ⟨s1, e1, r1, x1⟩ := o1 (by omega)
        have h2 : Pre s1 R T n p (l + 1) d m := h.nx r1 x1 (Nat.le_refl _) (by omega) hd
        have n1 : sn s1 = sn s := x1.2.2.2.1.1
        have hm1 := h2.2.2.1
        unfold Rm at hm1
        have F1 : PF R s1 (newO s1 (9, 0) 1) 1 1 := Fil.rf.pf h2.R
        have r2 : RdE (newO s1 (9, 0) 1) R T n p (l + 1) d m := r1.old Old.new h2.R (by have := h2.2.2.2.2.2; omega)
        have v2 : Vd (newO s1 (9, 0) 1) := h2.2.1.new
        rw [if_neg l50, e1, bnx_il, gd_ok (okN_t (by omega) (by omega)), nam_v, isRd_g r2.1, k_1000]
        have r8 : R8 (newO s1 (9, 0) 1) := by
          unfold R8
          rw [nO_n, nO_s]
          show sn s1 + 1 + 8 ≤ smx s1 ∧ ss s1 + 1 + 500 ≤ sms s1
          omega
        obtain ⟨q1, q2⟩ := e_X6_number (p0 := p + 1) r2 v2 r8 (lo := 0) (hi := 1000) (by omega) (by omega)
        by_cases a3 : numP T n p 0 1000
        · obtain ⟨s3, e3, r3, x3⟩ := q1 a3
          have k3 : (sk s3 (sn s1)).1 = 9 := by rw [x3.1, nO_k, if_pos rfl]
          unfold F_X11_init F_X10_init
          rw [if_pos a3, e3, bnx_il, bnd_s, isK_g k3, nam_v, bnd_s]
          have fl : Fil (sn s1) s3 (setI s3 (sn s1) 0 (iI (numZ T n p))) := Fil.I
          have P3 : PF R s s3 1 1 := (((x1.pf (k := 0) (m := 0)).tr F1).tr (x3.pf (k := 0) (m := 0))).le (by omega) (by omega)
          have P4 := P3.fil fl (by omega) hR
          have n3 : sn s3 = sn s + 1 := by rw [x3.2.2.2.1.1, nO_n, n1]
          refine ⟨_, sn s1, rfl, r3.fil fl (by have := h2.R; omega) (by omega), ⟨⟨by omega, by show sn s1 < sn s3; omega⟩, fun s2 hk hS => ?_⟩, dok_num ⟨a3.2.1, a3.2.2⟩, P4.le (by omega) (by omega), ⟨hnx.2.2 hlt, hnx.2.1⟩, by omega, by omega⟩
          have hc := hk (sn s1) ⟨by omega, by show sn s1 < sn s3; omega⟩
          have := SumE.num (s := s2) (a := sn s1) (z := numZ T n p) (by rw [hc.1]; exact k3) (by rw [hc.2.1, si_set, if_pos rfl, if_pos rfl]) ⟨a3.2.1, a3.2.2⟩
          exact this.le (by omega)
        · obtain ⟨s3, b3, e3, f3, p3⟩ := q2 a3
          rw [if_neg a3, e3, bnx_ir]
          exact ⟨s3, b3, rfl, f3, (((x1.pf (k := 0) (m := 0)).tr F1).tr p3).le (by omega) (by omega)⟩
    · rw [if_pos (by rw [bZ_i0]; exact a2), if_neg a2]
      have hv2 := hV s p l h
      cases ev : V p l with
      | inl q =>
        rw [ev] at hv2
        obtain ⟨s1, b1, e1, f1, p1⟩ := hv2
        rw [e1, bnx_ir]
        exact ⟨s1, b1, rfl, f1, p1⟩
      | inr w =>
        obtain ⟨o, p', l'⟩ := w
        rw [ev] at hv2
        cases o with
        | none =>
          have hv2 : F_valueD s R = some (.inl (iI (-1)), s) := hv2
          rw [hv2, bnx_il, k_m1, if_pos rfl]
          exact e_fault h1 hv hm.r8 rfl
        | some k =>
          obtain ⟨s1, e1, r1, x1, pp, ll, hk⟩ := hv2
          have n1 : sn s1 = sn s := x1.2.2.2.1.1
          have h2 : Pre s1 R T n p' l' d m := h.nx r1 x1 (by omega) ll.2 hd
          have hm1 := h2.2.2.1
          unfold Rm at hm1
          have k3 : (sk (newO s1 (10, 0) 1) (sn s1)).1 = 10 := by rw [nO_k, if_pos rfl]
          have r2 : RdE (newO s1 (10, 0) 1) R T n p' l' d m := r1.old Old.new h2.R (by have := h2.2.2.2.2.2; omega)
          have fl : Fil (sn s1) (newO s1 (10, 0) 1) (setI (newO s1 (10, 0) 1) (sn s1) 0 (iI k)) := Fil.I
          have F1 : PF R s1 (setI (newO s1 (10, 0) 1) (sn s1) 0 (iI k)) 1 1 := fl.pf h2.R
          unfold F_X12_init F_X10_init
          rw [e1, bnx_il, if_neg (by rw [k_m1, iI_eq (by omega) (by omega)]; omega), gd_ok (okN_t (by omega) (by omega)), nam_v, bnd_s, isK_g k3, nam_v, bnd_s]
          refine ⟨_, sn s1, rfl, r2.fil fl (by have := h2.R; omega) (by omega), ⟨⟨by omega, Nat.lt_succ_self _⟩, fun s2 hk2 hS => ?_⟩, dok_val, ((x1.pf (k := 0) (m := 0)).tr F1).le (by omega) (by omega), pp, by omega, ll.2⟩
          have hc := hk2 (sn s1) ⟨by omega, Nat.lt_succ_self _⟩
          have := SumE.val (s := s2) (a := sn s1) (k := k) hS (by rw [hc.1]; exact k3) (by rw [hc.2.1, si_set, if_pos rfl, if_pos rfl]) hk
          exact this.le (by omega)
