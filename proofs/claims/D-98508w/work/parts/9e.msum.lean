set_option maxRecDepth 100000
/-! ===== the model's reader: sums ===== -/
noncomputable def tuF (x1 : Int32) (t : St) (u : Int) : Option (Int32 × St) := if u = 0 then F_X5_readPlain t else if u = 1 then F_X5_readPart t else if u = 3 then F_X5_behindSum t x1 else F_X5_behindTest t
def Go (x1 : Int32) (t : St) (u : Int) (t' : St) (u' : Int) (j : Nat) : Prop := ∀ fu, F_X5_readExpression_20 (fu + j) t x1 (iI u) = F_X5_readExpression_20 fu t' x1 (iI u')
theorem Go.rf {x1 : Int32} {t : St} {u : Int} : Go x1 t u t u 0 := fun _ => rfl
theorem Go.tr {x1 : Int32} {t t1 t2 : St} {u u1 u2 : Int} {j k : Nat} (h : Go x1 t u t1 u1 j) (g : Go x1 t1 u1 t2 u2 k) : Go x1 t u t2 u2 (j + k) := fun fu => by
  rw [show fu + (j + k) = (fu + k) + j by omega, h, g]
theorem Go.one {x1 : Int32} {t t' : St} {u u' : Int} (h : si t 0 20 = iI 0) (hu : 0 ≤ u ∧ u ≤ 3) (e : tuF x1 t u = some (iI u', t')) : Go x1 t u t' u' 1 := fun fu => by
  have h0 : si t 0 20 = 0 := h
  show F_X5_readExpression_20 (fu + 1) t x1 (iI u) = _
  simp only [F_X5_readExpression_20]
  unfold tuF at e
  rw [if_pos h0, k_4, k_0, k_1, k_3, if_neg (by rw [iI_eq (by omega) (by omega)]; omega)]
  by_cases a : u = 0
  · rw [if_pos a] at e
    rw [if_pos (by rw [a]), e, bnd_s]
  · rw [if_neg a] at e
    rw [if_neg (by rw [iI_eq (by omega) (by omega)]; omega)]
    by_cases b : u = 1
    · rw [if_pos b] at e
      rw [if_pos (by rw [b]), e, bnd_s]
    · rw [if_neg b] at e
      rw [if_neg (by rw [iI_eq (by omega) (by omega)]; omega)]
      by_cases c : u = 3
      · rw [if_pos c] at e
        rw [if_pos (by rw [c]), e, bnd_s]
      · rw [if_neg c] at e
        rw [if_neg (by rw [iI_eq (by omega) (by omega)]; omega), e, bnd_s]
/-- the text is bad: the fault lies at q -/
def BadI (ord : Bool) (x1 : Int32) (t : St) (u : Int) (T : Nat → Int) (n p q : Nat) : Prop := ∃ t' u' j, Go x1 t u t' u' j ∧ j ≤ 2 * (n - p) + 1 ∧ BdM ord t' T n q ∧ Fm Sex t t'
theorem BadI.after {ord : Bool} {x1 : Int32} {t t1 : St} {u u1 : Int} {T : Nat → Int} {n p p1 q j : Nat} (h : BadI ord x1 t1 u1 T n p1 q) (g : Go x1 t u t1 u1 j) (f : Fm Sex t t1) (hp : p ≤ p1 ∧ p1 ≤ n) (hj : j ≤ 2 * (p1 - p)) : BadI ord x1 t u T n p q := by
  obtain ⟨t', u', j', g', hj', hb, f'⟩ := h
  exact ⟨t', u', j + j', g.tr g', by omega, hb, f.tr f'⟩
/-- a sum (or a term, a part) has been read -/
def SumI (ord : Bool) (lev : Int) (x1 : Int32) (t : St) (u : Int) (T : Nat → Int) (n p : Nat) (P : List (Int × Nat)) (C : CD) (nc d : Nat) (f : DS) (p' l' : Nat) : Prop := ∃ t' j q C' nc', Go x1 t u t' 3 j ∧ j ≤ 2 * (p' - p) - 1 ∧ RdM ord t' T n p' (q ++ P) C' nc' l' d ∧ Fm Sex t t' ∧ (∀ y ∈ q, lev ≤ bindZ y.1 ∧ 20 ≤ y.1 ∧ y.1 ≤ 24) ∧ (∀ k, k < nc → C' k = C k) ∧ nc < nc' ∧ ClS ord (stC q (C', nc')).1 nc (stC q (C', nc')).2 f ∧ (p < p' ∧ p' ≤ n) ∧ l' ≤ 50
def SumO (ord : Bool) (lev : Int) (x1 : Int32) (t : St) (u : Int) (T : Nat → Int) (n p : Nat) (P : List (Int × Nat)) (C : CD) (nc d : Nat) : PR DS → Prop
  | .inl q => BadI ord x1 t u T n p q
  | .inr (f, p', l') => SumI ord lev x1 t u T n p P C nc d f p' l'
/-! behind a sum -/
noncomputable def sumC (T : Nat → Int) (n p : Nat) : Int := @ite _ (tokIs T n p (strB 16)) (Classical.propDecidable _) 20 (@ite _ (tokIs T n p (strB 17)) (Classical.propDecidable _) 21 (@ite _ (tokIs T n p (strB 13)) (Classical.propDecidable _) 22 (@ite _ (tokIs T n p (strB 14)) (Classical.propDecidable _) 23 (@ite _ (tokIs T n p (strB 15)) (Classical.propDecidable _) 24 (-1)))))
theorem e_bs {t : St} {T : Nat → Int} {n p : Nat} (h : TkE t T n p) (x : Int32) : F_X5_behindSum t x = F_X5_behindSum_71 t x (iI (sumC T n p)) := by
  have s := fun (c : Int) (hc : sgC c) => e_X5_isSign h hc
  unfold F_X5_behindSum sumC
  rw [show (43 : Int32) = iI 43 from rfl, s 43 (by unfold sgC; omega), bnd_s, k_0]
  by_cases a : tokIs T n p (strB 16)
  · rw [if_pos a, if_neg (by rw [bZ_i0]; exact fun z => z a)]; rfl
  · rw [if_neg a, if_pos (by rw [bZ_i0]; exact a), show (45 : Int32) = iI 45 from rfl, s 45 (by unfold sgC; omega), bnd_s]
    by_cases a : tokIs T n p (strB 17)
    · rw [if_pos a, if_neg (by rw [bZ_i0]; exact fun z => z a)]; rfl
    · rw [if_neg a, if_pos (by rw [bZ_i0]; exact a), show (42 : Int32) = iI 42 from rfl, s 42 (by unfold sgC; omega), bnd_s]
      by_cases a : tokIs T n p (strB 13)
      · rw [if_pos a, if_neg (by rw [bZ_i0]; exact fun z => z a)]; rfl
      · rw [if_neg a, if_pos (by rw [bZ_i0]; exact a), show (47 : Int32) = iI 47 from rfl, s 47 (by unfold sgC; omega), bnd_s]
        by_cases a : tokIs T n p (strB 14)
        · rw [if_pos a, if_neg (by rw [bZ_i0]; exact fun z => z a)]; rfl
        · rw [if_neg a, if_pos (by rw [bZ_i0]; exact a), show (37 : Int32) = iI 37 from rfl, s 37 (by unfold sgC; omega), bnd_s]
          by_cases a : tokIs T n p (strB 15)
          · rw [if_pos a, if_neg (by rw [bZ_i0]; exact fun z => z a)]; rfl
          · rw [if_neg a, if_pos (by rw [bZ_i0]; exact a)]; rfl
/-- the sign at p joins at the level b -/
def sgAt (T : Nat → Int) (n p : Nat) (b : Int) : Prop := (bindZ (sumC T n p) = b ∧ 20 ≤ sumC T n p ∧ sumC T n p ≤ 24) ∧ ((T p = 43 ∧ sumC T n p = 20) ∨ (T p = 45 ∧ sumC T n p = 21) ∨ (T p = 42 ∧ sumC T n p = 22) ∨ (T p = 47 ∧ sumC T n p = 23) ∨ (T p = 37 ∧ sumC T n p = 24)) ∧ p < n
theorem tokC {T : Nat → Int} {n p : Nat} {c : Int} {l : List Int} (hl : l = [c]) (hp : p ≤ n) (h : tokIs T n p l) : T p = c ∧ p < n := by
  subst hl
  exact ⟨h.2 0 (by show 0 < 1; omega), tok_lt hp (by show 1 ≤ 1; omega) h⟩
theorem mul_at {T : Nat → Int} {n p : Nat} (hp : p ≤ n) (h : mulOp T n p) : sgAt T n p 6 := by
  have no : ∀ i j, i < 45 → j < 45 → i ≠ j → tokIs T n p (strB i) → ¬ tokIs T n p (strB j) := fun i j hi hj hne h h' => hne (str_un hi hj h h')
  unfold sgAt sumC
  rcases h with h | h | h
  · have := tokC (c := 42) rfl hp h
    rw [if_neg (no 13 16 (by omega) (by omega) (by omega) h), if_neg (no 13 17 (by omega) (by omega) (by omega) h), if_pos h]
    exact ⟨⟨rfl, by omega, by omega⟩, by omega, this.2⟩
  · have := tokC (c := 47) rfl hp h
    rw [if_neg (no 14 16 (by omega) (by omega) (by omega) h), if_neg (no 14 17 (by omega) (by omega) (by omega) h), if_neg (no 14 13 (by omega) (by omega) (by omega) h), if_pos h]
    exact ⟨⟨rfl, by omega, by omega⟩, by omega, this.2⟩
  · have := tokC (c := 37) rfl hp h
    rw [if_neg (no 15 16 (by omega) (by omega) (by omega) h), if_neg (no 15 17 (by omega) (by omega) (by omega) h), if_neg (no 15 13 (by omega) (by omega) (by omega) h), if_neg (no 15 14 (by omega) (by omega) (by omega) h), if_pos h]
    exact ⟨⟨rfl, by omega, by omega⟩, by omega, this.2⟩
theorem add_at {T : Nat → Int} {n p : Nat} (hp : p ≤ n) (h : addOp T n p) : sgAt T n p 5 := by
  have no : ∀ i j, i < 45 → j < 45 → i ≠ j → tokIs T n p (strB i) → ¬ tokIs T n p (strB j) := fun i j hi hj hne h h' => hne (str_un hi hj h h')
  unfold sgAt sumC
  rcases h with h | h
  · have := tokC (c := 43) rfl hp h
    rw [if_pos h]
    exact ⟨⟨rfl, by omega, by omega⟩, by omega, this.2⟩
  · have := tokC (c := 45) rfl hp h
    rw [if_neg (no 17 16 (by omega) (by omega) (by omega) h), if_pos h]
    exact ⟨⟨rfl, by omega, by omega⟩, by omega, this.2⟩
theorem no_at {T : Nat → Int} {n p : Nat} (h : ¬ mulOp T n p) (h' : ¬ addOp T n p) : sumC T n p = -1 := by
  unfold sumC
  rw [if_neg fun z => h' (Or.inl z), if_neg fun z => h' (Or.inr z), if_neg fun z => h (Or.inl z), if_neg fun z => h (Or.inr (Or.inl z)), if_neg fun z => h (Or.inr (Or.inr z))]
theorem Fm.sst {t t' : St} (h : Fm (fun a j => (a = 0 ∧ (j = 24 ∨ j = 30)) ∨ a = 12 ∨ a = 13) t t') : Fm Spc t t' := h.le fun a j z => by unfold Spc; omega
theorem cnt_settled {q P : List (Int × Nat)} {C : CD} {nc : Nat} (hq : ∀ y ∈ q, 20 ≤ y.1 ∧ y.1 ≤ 30) : (stC q (C, nc)).2 + cnt P = nc + cnt (q ++ P) := by
  rw [stC_n q C nc hq, cnt_app]
  omega
/-- settled, in the reader's state -/
theorem RdM.settle {ord : Bool} {t : St} {T : Nat → Int} {n p : Nat} {q P : List (Int × Nat)} {C : CD} {nc l d : Nat} (h : RdM ord t T n p (q ++ P) C nc l d) {k : Int} (hk : 1 ≤ k ∧ k ≤ 6) (hP : topB P < k) (hq : ∀ y ∈ q, k ≤ bindZ y.1) : ∃ t', F_X5_settle t (iI k) = some ((), t') ∧ RdM ord t' T n p P (stC q (C, nc)).1 (stC q (C, nc)).2 l d ∧ Fm Spc t t' := by
  obtain ⟨h1, h2, h3, h4⟩ := h
  obtain ⟨t', e, hp, f⟩ := e_X5_settle hk hP h2 hq
  have hq' : ∀ y ∈ q, 20 ≤ y.1 ∧ y.1 ≤ 30 := fun y hy => by
    have a := hq y hy
    have b := (h2.2.1 y (List.mem_append_left _ hy)).1
    unfold bindZ at a
    omega
  refine ⟨t', e, ⟨h1.pc f.sst, hp, h3.ex (f.sst.le fun _ _ => Or.inr), ?_, ?_⟩, f.sst⟩
  · rw [cnt_settled hq']; exact h4.1
  · have := h4.2
    rw [List.length_append] at this
    omega
theorem bs_op {ord : Bool} {t : St} {T : Nat → Int} {n p : Nat} {q P : List (Int × Nat)} {C : CD} {nc l d : Nat} {x1 : Int32} {b : Int} (h : RdM ord t T n p (q ++ P) C nc l d) (hb : b = 5 ∨ b = 6) (hs : sgAt T n p b) (hP : topB P < b) (hq : ∀ y ∈ q, b ≤ bindZ y.1) : ∃ t', Go x1 t 3 t' 1 1 ∧ RdM ord t' T n (nxt T n p) ((sumC T n p, 0) :: P) (stC q (C, nc)).1 (stC q (C, nc)).2 l d ∧ Fm Sex t t' := by
  have hpn := h.p
  have hnx := nxt_r (T := T) hpn.1
  obtain ⟨t1, e1, r1, f1⟩ := h.settle (k := b) (by omega) hP hq
  have h4 := r1.2.2.2
  have hlt := hs.2.2
  obtain ⟨t2, e2, g2, p2, w2, f2⟩ := r1.push (op := sumC T n p) (by have := hs.1; omega) (by omega)
  obtain ⟨t3, e3, g3, f3⟩ := g_next g2
  refine ⟨t3, Go.one h.1.2.1 (by omega) ?_, ⟨g3, p2.mu (f3.le fun _ _ => Or.inl), w2.ex (f3.le fun _ _ z => Or.inl (Or.inl z)), ?_, ?_⟩, ((f1.tr f2).le fun _ _ => Or.inr).tr (f3.le fun _ _ z => Or.inl (Or.inl z))⟩
  · unfold tuF
    rw [if_neg (by omega), if_neg (by omega), if_pos rfl, e_bs h.1.1]
    unfold F_X5_behindSum_71
    rw [k_m1, k_0, k_1, if_neg (by have := hs.1; rw [iI_eq (by omega) (by omega)]; omega), e_X5_binds t (by have := hs.1; omega), bnd_s, hs.1.1, e1, bnd_s, e2, bnd_s, e3, bnd_s]
  · rw [cnt_cons]
    have := hnx.2.2 hlt
    split <;> omega
  · have := hnx.2.2 hlt
    simp only [List.length_cons]
    omega
theorem innZ_q {q P : List (Int × Nat)} (h : ∀ y ∈ q, y.1 ≤ 30) : innZ (q ++ P) = innZ P := by
  induction q with
  | nil => rfl
  | cons y q ih =>
    show (if 31 ≤ y.1 then y.1 else innZ (q ++ P)) = _
    rw [if_neg (by have := h y List.mem_cons_self; omega)]
    exact ih fun z hz => h z (List.mem_cons_of_mem _ hz)
/-- a bracket is taken off the pile -/
theorem RdM.pop {ord : Bool} {t : St} {T : Nat → Int} {n p : Nat} {y : Int × Nat} {P : List (Int × Nat)} {C : CD} {nc l d : Nat} (h : RdM ord t T n p (y :: P) C nc l (d + 1)) : ∃ t', (setI (setI t 0 30 ((si t 0 30) - (1 : Int32))) 0 31 ((si t 0 31) - (1 : Int32))) = t' ∧ RdM ord t' T n p P C nc l d ∧ Fm Spc t t' := by
  obtain ⟨h1, ⟨⟨b1, b2⟩, b3, b4, b5, b6⟩, h3, h4⟩ := h
  have b2' : si t 0 30 = iI ((P.length + 1 : Nat) : Int) := b2
  have f : Fm (fun a j => a = 0 ∧ (j = 30 ∨ j = 31)) t (setI (setI t 0 30 ((si t 0 30) - (1 : Int32))) 0 31 ((si t 0 31) - (1 : Int32))) := (Fm.set (by omega)).tr (Fm.set (by omega))
  have f' : Fm Spc t (setI (setI t 0 30 ((si t 0 30) - (1 : Int32))) 0 31 ((si t 0 31) - (1 : Int32))) := f.le fun a j z => by unfold Spc; omega
  have hc : cnt P ≤ cnt (y :: P) := by rw [cnt_cons]; omega
  refine ⟨_, rfl, ⟨h1.pc f', ⟨⟨PilE.go b1.2 fun k hk => ⟨f.i _ _ (by omega), f.i _ _ (by omega)⟩, ?_⟩, fun x hx => b3 x (List.mem_cons_of_mem _ hx), b4.go f ⟨by omega, fun k => by omega⟩, ⟨by rw [f.i _ _ (by omega)]; exact b5.1, ?_, by rw [f.i _ _ (by omega)]; exact b5.2.2⟩, by omega, by have := b6.2; simp only [List.length_cons] at this; omega⟩, h3.ex (f'.le fun _ _ => Or.inr), by omega, by have := h4.2; simp only [List.length_cons] at this; omega⟩, f'⟩
  · rw [si_set, if_pos rfl, if_neg (by omega), si_set, if_pos rfl, if_pos rfl, b2', k_1, iI_sub]
    congr 1
    omega
  · rw [si_set, if_pos rfl, if_pos rfl, b5.2.1, k_1, iI_sub]
    congr 1
    omega
/-- `]` -/
theorem bs_close {ord : Bool} {t : St} {T : Nat → Int} {n p : Nat} {q P : List (Int × Nat)} {C : CD} {nc l d : Nat} {x1 : Int32} (h : RdM ord t T n p (q ++ (32, 0) :: P) C nc l (d + 1)) (ho : sumC T n p = -1) (hq : ∀ y ∈ q, 5 ≤ bindZ y.1 ∧ 20 ≤ y.1 ∧ y.1 ≤ 24) : (tokIs T n p (strB 12) → ∃ t', Go x1 t 3 t' 3 1 ∧ RdM ord t' T n (nxt T n p) P (stC q (C, nc)).1 (stC q (C, nc)).2 l d ∧ Fm Sex t t') ∧ (¬ tokIs T n p (strB 12) → ∃ t', Go x1 t 3 t' 3 1 ∧ BdM ord t' T n p ∧ Fm Sex t t') := by
  have hpn := h.p
  have hnx := nxt_r (T := T) hpn.1
  have hi : innZ (q ++ (32, 0) :: P) = 32 := (innZ_q fun y hy => by have := hq y hy; omega).trans rfl
  have start : ∀ {X : Option (Int32 × St)}, F_X5_behindSum t x1 = X → tuF x1 t 3 = X := fun e => by
    unfold tuF
    rw [if_neg (by omega), if_neg (by omega), if_pos rfl, e]
  constructor
  · intro hc
    obtain ⟨t1, e1, g1, f1⟩ := (e_must h.1 (P := tokIs T n p (strB 12))).1 hc
    have r1 := h.nx g1 f1 hnx.1
    obtain ⟨t2, e2, r2, f2⟩ := r1.settle (k := 5) (by omega) (by show (0 : Int) < 5; omega) (fun y hy => (hq y hy).1)
    obtain ⟨t3, e3, r3, f3⟩ := r2.pop
    refine ⟨t3, Go.one h.1.2.1 (by omega) (start ?_), r3, (f1.le fun _ _ => Or.inl).tr ((f2.tr f3).le fun _ _ => Or.inr)⟩
    rw [e_bs h.1.1, ho]
    unfold F_X5_behindSum_71
    rw [k_m1, if_pos rfl, e_X5_inner h.2.1, bnd_s, hi, if_pos (show iI 32 = (32 : Int32) from rfl), show (93 : Int32) = iI 93 from rfl, e_X5_isSign h.1.1 (by unfold sgC; omega), bnd_s]
    rw [show F_X5_must t (iI (bZ (tokIs T n p [93]))) = some ((), t1) from e1, bnd_s, if_pos (show si t1 0 20 = 0 from g1.2.1), show (5 : Int32) = iI 5 from rfl, e2, bnd_s, nam_v, nam_v, show si (setI t2 0 30 (si t2 0 30 - 1)) 0 31 = si t2 0 31 by rw [si_set, if_pos rfl, if_neg (by omega)], e3]
    rfl
  · intro hc
    obtain ⟨t1, e1, g1, f1⟩ := (e_must h.1 (P := tokIs T n p (strB 12))).2 hc
    refine ⟨t1, Go.one h.1.2.1 (by omega) (start ?_), h.bd g1 f1, f1.le fun _ _ => Or.inl⟩
    rw [e_bs h.1.1, ho]
    unfold F_X5_behindSum_71
    rw [k_m1, if_pos rfl, e_X5_inner h.2.1, bnd_s, hi, if_pos (show iI 32 = (32 : Int32) from rfl), show (93 : Int32) = iI 93 from rfl, e_X5_isSign h.1.1 (by unfold sgC; omega), bnd_s]
    rw [show F_X5_must t (iI (bZ (tokIs T n p [93]))) = some ((), t1) from e1, bnd_s, g1.2.1, if_neg (show ¬ iI 1 = (0 : Int32) by decide)]
    rfl
/-! a part -/
theorem e_part {ord : Bool} {x1 : Int32} {T : Nat → Int} {n d : Nat} {rec : Nat → Nat → Nat → PR DS} (hrec : d < 8 → ∀ t p l P C nc, RdM ord t T n p P C nc l (d + 1) → l ≤ 50 → topB P < 5 → SumO ord 5 x1 t 1 T n p P C nc (d + 1) (rec (d + 1) p l)) (hend : ∀ p l f p' l', rec (d + 1) p l = .inr (f, p', l') → sumC T n p' = -1) (hd : d ≤ 8) : ∀ t p l P C nc, RdM ord t T n p P C nc l d → l ≤ 50 → SumO ord 7 x1 t 1 T n p P C nc d (partS T n (valV ord T n) rec d p l) := by
  intro t p l P C nc h hl
  have hpn := h.p
  have hnx := nxt_r (T := T) hpn.1
  unfold partS
  have start : ∀ {X : Option (Int32 × St)}, F_X5_readPart t = X → tuF x1 t 1 = X := fun e => by
    unfold tuF
    rw [if_neg (by omega), if_pos rfl, e]
  by_cases a : tokIs T n p (strB 11)
  · have hlt := tok_lt hpn.1 (by show 1 ≤ 1; omega) a
    rw [if_pos a]
    have eo := e_openB h hlt (op := 32) (Or.inr rfl) hd
    have e0 : ∀ t', F_X5_openBracket t (iI 32) = some ((), t') → F_X5_readPart t = some (iI 1, t') := fun t' e => by
      unfold F_X5_readPart
      rw [show (91 : Int32) = iI 91 from rfl, e_X5_isSign h.1.1 (by unfold sgC; omega), bnd_s, k_0, if_neg (by rw [bZ_i0]; exact fun z => z a), show (32 : Int32) = iI 32 from rfl, e, bnd_s]
      rfl
    by_cases b : d = 8
    · obtain ⟨t', e, hb, f⟩ := eo.2 b
      rw [if_pos b]
      exact ⟨t', 1, 1, Go.one h.1.2.1 (by omega) (start (e0 t' e)), by omega, hb, f⟩
    · obtain ⟨t1, e, r1, f1⟩ := eo.1 (by omega)
      have g1 : Go x1 t 1 t1 1 1 := Go.one h.1.2.1 (by omega) (start (e0 t1 e))
      have hlt2 := hnx.2.2 hlt
      have ih := hrec (by omega) t1 (nxt T n p) l ((32, 0) :: P) C nc r1 hl (by show (0 : Int) < 5; omega)
      have he := hend (nxt T n p) l
      rw [if_neg b]
      generalize rec (d + 1) (nxt T n p) l = R at ih he ⊢
      rcases R with q | ⟨f, p', l'⟩
      · exact BadI.after ih g1 f1 (by omega) (by omega)
      · obtain ⟨t2, j, q, C2, nc2, g2, hj, r2, f2, hq, hC, hn, hcl, hp', hl'⟩ := ih
        obtain ⟨c1, c2⟩ := bs_close (x1 := x1) r2 (he f p' l' rfl) hq
        show SumO ord 7 x1 t 1 T n p P C nc d (@ite _ (tokIs T n p' (strB 12)) (Classical.propDecidable _) (.inr (f, nxt T n p', l')) (.inl p'))
        have hnx' := nxt_r (T := T) hp'.2
        by_cases c : tokIs T n p' (strB 12)
        · obtain ⟨t3, g3, r3, f3⟩ := c1 c
          have hlt' := tok_lt hp'.2 (by show 1 ≤ 1; omega) c
          have hlo := stC_lo (lo := nc2) q C2 nc2 (Nat.le_refl _) (fun y hy z => by have := hq y hy; unfold jmpO at z; omega)
          have := hnx'.2.2 hlt'
          rw [if_pos c]
          refine ⟨t3, 1 + j + 1, [], _, _, (g1.tr g2).tr g3, by omega, r3, (f1.tr f2).tr f3, fun y hy => absurd hy List.not_mem_nil, fun k hk => ?_, by omega, hcl, ⟨by omega, hnx'.2.1⟩, hl'⟩
          rw [hlo.2 k (by omega), hC k hk]
        · obtain ⟨t3, g3, b3, f3⟩ := c2 c
          rw [if_neg c]
          exact ⟨t3, 3, 1 + j + 1, (g1.tr g2).tr g3, by omega, b3, (f1.tr f2).tr f3⟩
  · rw [if_neg a]
    have hL := e_X5_readPart h hl a
    unfold lfS at hL
    generalize (@ite (PR DS) (isD T n p) (Classical.propDecidable _) _ _) = R at hL ⊢
    rcases R with q | ⟨f, p', l'⟩
    · obtain ⟨t', e, hb, f1⟩ := hL
      exact ⟨t', 3, 1, Go.one h.1.2.1 (by omega) (start e), by omega, hb, f1⟩
    · obtain ⟨t', y, e, r, f1, hc, hp', hl'⟩ := hL
      exact ⟨t', 1, [], _, _, Go.one h.1.2.1 (by omega) (start e), by omega, r, f1, fun y hy => absurd hy List.not_mem_nil, fun k hk => upC_n (by omega), by omega, hc, hp', hl'⟩
/-! chains -/
theorem e_loop {ord : Bool} {x1 : Int32} {T : Nat → Int} {n d : Nat} {b : Int} (hb : b = 5 ∨ b = 6) {op : Nat → Prop} (hop : ∀ p, p ≤ n → op p → sgAt T n p b) {next : Nat → Nat → Nat → PR DS} (hN : ∀ t p l P C nc, RdM ord t T n p P C nc l d → l ≤ 50 → topB P < b + 1 → SumO ord (b + 1) x1 t 1 T n p P C nc d (next d p l)) {t0 : St} {p0 : Nat} {P : List (Int × Nat)} {C : CD} {nc : Nat} (hP : topB P < b) : ∀ (k p l : Nat) (f : DS), n - p < k → SumI ord b x1 t0 1 T n p0 P C nc d f p l → SumO ord b x1 t0 1 T n p0 P C nc d (loopS op T n next k f d p l) := by
  intro k
  induction k with
  | zero => intro p l f hk _; omega
  | succ k ih =>
    intro p l f hk h
    rw [loopS]
    by_cases a : op p
    · obtain ⟨t1, j, q, C1, nc1, g1, hj, r1, f1, hq, hC, hn, hcl, hp, hl⟩ := h
      have hs := hop p hp.2 a
      obtain ⟨t2, g2, r2, f2⟩ := bs_op (x1 := x1) r1 hb hs hP fun y hy => (hq y hy).1
      have hnx := nxt_r (T := T) hp.2
      have hlt := hnx.2.2 hs.2.2
      have hlo := stC_lo (lo := nc1) q C1 nc1 (Nat.le_refl _) (fun y hy z => by have := hq y hy; unfold jmpO at z; omega)
      have ih2 := hN t2 (nxt T n p) l ((sumC T n p, 0) :: P) _ _ r2 hl (by show bindZ (sumC T n p) < b + 1; have := hs.1.1; omega)
      rw [if_pos a]
      generalize next d (nxt T n p) l = R at ih2 ⊢
      rcases R with q2 | ⟨f2', p2, l2⟩
      · exact BadI.after ih2 (g1.tr g2) (f1.tr f2) (by omega) (by omega)
      · obtain ⟨t3, j3, q3, C3, nc3, g3, hj3, r3, f3, hq3, hC3, hn3, hcl3, hp3, hl3⟩ := ih2
        refine ih p2 l2 _ (by omega) ⟨t3, j + 1 + j3, q3 ++ [(sumC T n p, 0)], C3, nc3, (g1.tr g2).tr g3, by omega, ?_, (f1.tr f2).tr f3, fun y hy => ?_, fun k hk => ?_, by omega, ?_, by omega, hl3⟩
        · rw [List.append_assoc]
          exact r3
        · rcases List.mem_append.mp hy with hy | hy
          · have := hq3 y hy
            omega
          · rw [List.mem_singleton.mp hy]
            have := hs.1
            show b ≤ bindZ (sumC T n p) ∧ 20 ≤ sumC T n p ∧ sumC T n p ≤ 24
            omega
        · rw [hC3 k (by omega), hlo.2 k (by omega), hC k hk]
        · have hlo3 := stC_lo (lo := nc3) q3 C3 nc3 (Nat.le_refl _) (fun y hy z => by have := hq3 y hy; unfold jmpO at z; omega)
          rw [stC_app]
          generalize hS : stC q3 (C3, nc3) = S at hcl3 hlo3 ⊢
          obtain ⟨C4, nc4⟩ := S
          have e4 : stC [(sumC T n p, 0)] (C4, nc4) = (upC C4 nc4 (sumC T n p, 0), nc4 + 1) := by
            rw [stC_cons, if_neg (fun z => by have := hs.1; have z : sumC T n p = 29 ∨ sumC T n p = 30 := z; omega)]
            rfl
          rw [e4]
          have hc4 : ∀ k, k < nc3 → C4 k = C3 k := hlo3.2
          have hn4 : nc3 ≤ nc4 := hlo3.1
          have hcl3' : ClS ord C4 (stC q (C1, nc1)).2 nc4 f2' := hcl3
          refine ClS.two (hcl.ext fun k k1 k2 => ?_) (hcl3'.ext fun k k1 k2 => upC_n (by omega)) upC_s hs.2.1
          show upC C4 nc4 (sumC T n p, 0) k = _
          rw [upC_n (by omega), hc4 k (by omega), hC3 k k2]
    · rw [if_neg a]
      exact h
theorem e_chain {ord : Bool} {x1 : Int32} {T : Nat → Int} {n d : Nat} {b : Int} (hb : b = 5 ∨ b = 6) {op : Nat → Prop} (hop : ∀ p, p ≤ n → op p → sgAt T n p b) {next : Nat → Nat → Nat → PR DS} (hN : ∀ t p l P C nc, RdM ord t T n p P C nc l d → l ≤ 50 → topB P < b + 1 → SumO ord (b + 1) x1 t 1 T n p P C nc d (next d p l)) : ∀ t p l P C nc, RdM ord t T n p P C nc l d → l ≤ 50 → topB P < b → SumO ord b x1 t 1 T n p P C nc d (chainS op T n next d p l) := by
  intro t p l P C nc h hl hP
  have h1 := hN t p l P C nc h hl (by omega)
  unfold chainS
  generalize next d p l = R at h1 ⊢
  rcases R with q | ⟨f, p', l'⟩
  · exact h1
  · refine e_loop hb hop hN hP 401 p' l' f (by have := h.p; omega) ?_
    obtain ⟨t1, j, q, C1, nc1, g1, hj, r1, f1, hq, hC, hn, hcl, hp, hl⟩ := h1
    exact ⟨t1, j, q, C1, nc1, g1, hj, r1, f1, fun y hy => by have := hq y hy; omega, hC, hn, hcl, hp, hl⟩
/-! how chains end -/
theorem loop_end {op : Nat → Prop} {T : Nat → Int} {n : Nat} {next : Nat → Nat → Nat → PR DS} {R : Nat → Prop} (hR : ∀ d p l f p' l', next d p l = .inr (f, p', l') → R p') : ∀ (k : Nat) (f : DS) (d p l : Nat) (g : DS) (p' l' : Nat), R p → loopS op T n next k f d p l = .inr (g, p', l') → R p' ∧ ¬ op p' := by
  intro k
  induction k with
  | zero => intro f d p l g p' l' _ e; rw [loopS] at e; cases e
  | succ k ih =>
    intro f d p l g p' l' h e
    rw [loopS] at e
    by_cases a : op p
    · rw [if_pos a] at e
      cases en : next d (nxt T n p) l with
      | inl q => rw [en] at e; cases e
      | inr x =>
        obtain ⟨f2, p2, l2⟩ := x
        rw [en] at e
        exact ih _ _ _ _ _ _ _ (hR _ _ _ _ _ _ en) e
    · rw [if_neg a] at e
      cases e
      exact ⟨h, a⟩
theorem chain_end {op : Nat → Prop} {T : Nat → Int} {n : Nat} {next : Nat → Nat → Nat → PR DS} {R : Nat → Prop} (hR : ∀ d p l f p' l', next d p l = .inr (f, p', l') → R p') {d p l : Nat} {g : DS} {p' l' : Nat} (e : chainS op T n next d p l = .inr (g, p', l')) : R p' ∧ ¬ op p' := by
  unfold chainS at e
  cases en : next d p l with
  | inl q => rw [en] at e; cases e
  | inr x =>
    obtain ⟨f2, p2, l2⟩ := x
    rw [en] at e
    exact loop_end hR _ _ _ _ _ _ _ _ (hR _ _ _ _ _ _ en) e
theorem sum_end {T : Nat → Int} {n : Nat} {V : VP} : ∀ (k d p l : Nat) (f : DS) (p' l' : Nat), sumP T n V k d p l = .inr (f, p', l') → sumC T n p' = -1
  | 0, d, p, l, f, p', l', e => by rw [sumP] at e; cases e
  | k + 1, d, p, l, f, p', l', e => by
    rw [sumP] at e
    unfold sumS at e
    have := chain_end (R := fun q => True ∧ ¬ mulOp T n q) (fun d p l f p' l' e => by
      unfold termS at e
      exact chain_end (R := fun _ => True) (fun _ _ _ _ _ _ _ => trivial) e) e
    exact no_at this.1.2 this.2
theorem e_sum {ord : Bool} {x1 : Int32} {T : Nat → Int} {n : Nat} : ∀ (k d : Nat), 9 ≤ k + d → d ≤ 8 → ∀ t p l P C nc, RdM ord t T n p P C nc l d → l ≤ 50 → topB P < 5 → SumO ord 5 x1 t 1 T n p P C nc d (sumP T n (valV ord T n) k d p l) := by
  intro k
  induction k with
  | zero => intro d h1 h2; omega
  | succ k ih =>
    intro d h1 h2 t p l P C nc h hl hP
    rw [sumP]
    unfold sumS
    refine e_chain (b := 5) (Or.inl rfl) (fun p hp h => add_at hp h) ?_ t p l P C nc h hl hP
    intro t p l P C nc h hl hP
    unfold termS
    refine e_chain (b := 6) (Or.inr rfl) (fun p hp h => mul_at hp h) ?_ t p l P C nc h hl hP
    intro t p l P C nc h hl hP
    exact e_part (fun hd t p l P C nc h hl hP => ih (d + 1) (by omega) (by omega) t p l P C nc h hl hP) (fun p l f p' l' e => sum_end k (d + 1) p l f p' l' e) h2 t p l P C nc h hl
