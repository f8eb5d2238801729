set_option maxRecDepth 100000
/-! ===== the model's reader: tests ===== -/
theorem wd_18 : wdL (strB 18) := by unfold wdL; decide
theorem wd_24 : wdL (strB 24) := by unfold wdL; decide
theorem wd_25 : wdL (strB 25) := by unfold wdL; decide
theorem hs_18 : (14836 : Int) = hsL (strB 18) := by decide
theorem hs_24 : (1476 : Int) = hsL (strB 24) := by decide
theorem hs_25 : (498 : Int) = hsL (strB 25) := by decide
def TstI (ord : Bool) (lev : Int) (x1 : Int32) (t : St) (u : Int) (T : Nat → Int) (n p : Nat) (P : List (Int × Nat)) (C : CD) (nc d : Nat) (f : DT) (p' l' : Nat) : Prop := ∃ t' j q C' nc', Go x1 t u t' 2 j ∧ j ≤ 2 * (p' - p) ∧ RdM ord t' T n p' (q ++ P) C' nc' l' d ∧ Fm Sex t t' ∧ (∀ y ∈ q, lev ≤ bindZ y.1 ∧ (20 ≤ y.1 ∧ y.1 ≤ 30) ∧ (jmpO y → nc ≤ y.2)) ∧ (∀ k, k < nc → C' k = C k) ∧ nc < nc' ∧ ClT ord (stC q (C', nc')).1 nc (stC q (C', nc')).2 f ∧ (p < p' ∧ p' ≤ n) ∧ l' ≤ 50
def TstO (ord : Bool) (lev : Int) (x1 : Int32) (t : St) (u : Int) (T : Nat → Int) (n p : Nat) (P : List (Int × Nat)) (C : CD) (nc d : Nat) : PR DT → Prop
  | .inl q => BadI ord x1 t u T n p q
  | .inr (f, p', l') => TstI ord lev x1 t u T n p P C nc d f p' l'
theorem tu2 {x1 : Int32} {t : St} : tuF x1 t 2 = F_X5_behindTest t := by
  unfold tuF
  rw [if_neg (by omega), if_neg (by omega), if_neg (by omega)]
theorem tu0 {x1 : Int32} {t : St} : tuF x1 t 0 = F_X5_readPlain t := by
  unfold tuF
  rw [if_pos rfl]
theorem tu3 {x1 : Int32} {t : St} : tuF x1 t 3 = F_X5_behindSum t x1 := by
  unfold tuF
  rw [if_neg (by omega), if_neg (by omega), if_pos rfl]
/-- `and`, `or` -/
theorem bt_op {ord : Bool} {t : St} {T : Nat → Int} {n p : Nat} {q P : List (Int × Nat)} {C : CD} {nc l d : Nat} {x1 : Int32} {op : Int} {i : Nat} {lev : Int} (h : RdM ord t T n p (q ++ P) C nc l d) (ho : (i = 24 ∧ op = 29 ∧ lev = 2) ∨ (i = 25 ∧ op = 30 ∧ lev = 1)) (hs : tokIs T n p (strB i)) (hP : topB P < lev) (hq : ∀ y ∈ q, lev ≤ bindZ y.1) : ∃ t', Go x1 t 2 t' 0 1 ∧ RdM ord t' T n (nxt T n p) ((op, (stC q (C, nc)).2) :: P) (upC (stC q (C, nc)).1 (stC q (C, nc)).2 (op, 0)) ((stC q (C, nc)).2 + 1) l d ∧ Fm Sex t t' := by
  have hpn := h.p
  have hnx := nxt_r (T := T) hpn.1
  have hlt : p < n := by
    rcases ho with ⟨rfl, -, -⟩ | ⟨rfl, -, -⟩
    · exact tok_lt hpn.1 wd_24.1.1 hs
    · exact tok_lt hpn.1 wd_25.1.1 hs
  have hn' := hnx.2.2 hlt
  obtain ⟨t1, e1, r1, f1⟩ := h.settle (k := lev) (by omega) hP hq
  generalize hS : stC q (C, nc) = S at r1 ⊢
  obtain ⟨C1, nc1⟩ := S
  show ∃ t', Go x1 t 2 t' 0 1 ∧ RdM ord t' T n (nxt T n p) ((op, nc1) :: P) (upC C1 nc1 (op, 0)) (nc1 + 1) l d ∧ Fm Sex t t'
  have r1 : RdM ord t1 T n p P C1 nc1 l d := r1
  obtain ⟨g1, p1, w1, b1⟩ := r1
  have hc0 : cnt ((op, nc1) :: P) = cnt P := by
    rw [cnt_cons, if_neg (by show ¬ (20 ≤ op ∧ op ≤ 28); omega)]
    omega
  obtain ⟨t2, e2, ⟨a1, a2, a3⟩, f2⟩ := e_X5_push p1 (op := op) (at_ := nc1) (by omega) (by omega) (fun _ => Or.inr rfl) (by omega) (by rw [hc0]; omega)
  obtain ⟨t3, e3, a4, f3⟩ := a2.emit (op := op) (arg := 0) (by omega)
  have f3' : Fm Spc t2 t3 := f3.le fun a j z => by unfold Spc; omega
  have f13 := (f1.tr f2).tr f3'
  have p3 : PcE ord t3 ((op, nc1) :: P) (upC C1 nc1 (op, 0)) (nc1 + 1) l d := by
    refine ⟨⟨a1.1.go fun k hk => ⟨f3.i _ _ (by omega), f3.i _ _ (by omega)⟩, by rw [f3.i _ _ (by omega)]; exact a1.2⟩, fun x hx => ?_, a4, ⟨by rw [f3.i _ _ (by omega)]; exact a3.1, by rw [f3.i _ _ (by omega)]; exact a3.2.1, by rw [f3.i _ _ (by omega)]; exact a3.2.2⟩, by rw [hc0]; omega, by show P.length + 1 ≤ 400; omega⟩
    rcases List.mem_cons.mp hx with rfl | hx
    · exact ⟨by show 20 ≤ op ∧ op ≤ 32; omega, by show nc1 ≤ 400; omega, fun _ => by show nc1 < nc1 + 1; omega⟩
    · have := p1.2.1 x hx
      exact ⟨this.1, this.2.1, fun z => by have := this.2.2 z; omega⟩
  have g3 : TkG t3 T n p := h.1.pc f13
  obtain ⟨t4, e4, g4, f4⟩ := g_next g3
  refine ⟨t4, Go.one h.1.2.1 (by omega) ?_, ⟨g4, p3.mu (f4.le fun _ _ => Or.inl), (h.2.2.1.ex (f13.le fun _ _ => Or.inr)).ex (f4.le fun _ _ z => Or.inl (Or.inl z)), by rw [hc0]; omega, by simp only [List.length_cons]; omega⟩, (f13.le fun _ _ => Or.inr).tr (f4.le fun _ _ z => Or.inl (Or.inl z))⟩
  rw [tu2]
  unfold F_X5_behindTest F_X5_behindTest_22 F_X5_behindTest_32 F_X5_behindTest_47 F_X5_behindTest_66
  have n24 : si t1 0 24 = iI (nc1 : Int) := p1.2.2.1.1
  rw [K_1476, e_X5_isWord h.1.1 wd_24 hs_24, bnd_s, k_0, k_1, k_2, k_29, k_30]
  rcases ho with ⟨rfl, rfl, rfl⟩ | ⟨rfl, rfl, rfl⟩
  · have hz : ¬ iI (bZ (tokIs T n p (strB 24))) = iI 0 := by rw [bZ_i0]; exact fun z => z hs
    simp only [if_neg hz]
    rw [e1, bnd_s, n24, e2, bnd_s, e3, bnd_s, e4, bnd_s]
  · have h24 : ¬ tokIs T n p (strB 24) := fun z => absurd (str_un (by omega) (by omega) z hs) (by omega)
    have hz : iI (bZ (tokIs T n p (strB 24))) = iI 0 := by rw [bZ_f h24]
    have hz2 : ¬ iI (bZ (tokIs T n p (strB 25))) = iI 0 := by rw [bZ_i0]; exact fun z => z hs
    simp only [if_pos hz]
    rw [K_498, e_X5_isWord h.1.1 wd_25 hs_25, bnd_s, if_neg hz2, e1, bnd_s, n24, e2, bnd_s, e3, bnd_s, e4, bnd_s]
/-- `)` -/
theorem bt_close {ord : Bool} {t : St} {T : Nat → Int} {n p : Nat} {q P : List (Int × Nat)} {C : CD} {nc l d : Nat} {x1 : Int32} (h : RdM ord t T n p (q ++ (31, 0) :: P) C nc l (d + 1)) (ho : ¬ tokIs T n p (strB 24) ∧ ¬ tokIs T n p (strB 25)) (hq : ∀ y ∈ q, 1 ≤ bindZ y.1 ∧ 20 ≤ y.1 ∧ y.1 ≤ 30) : (tokIs T n p (strB 20) → ∃ t', Go x1 t 2 t' 2 1 ∧ RdM ord t' T n (nxt T n p) P (stC q (C, nc)).1 (stC q (C, nc)).2 l d ∧ Fm Sex t t') ∧ (¬ tokIs T n p (strB 20) → ∃ t', Go x1 t 2 t' 2 1 ∧ BdM ord t' T n p ∧ Fm Sex t t') := by
  have hpn := h.p
  have hnx := nxt_r (T := T) hpn.1
  have hi : innZ (q ++ (31, 0) :: P) = 31 := (innZ_q fun y hy => by have := hq y hy; omega).trans rfl
  have pre : F_X5_behindTest t = bnd (F_X5_must t (iI (bZ (tokIs T n p (strB 20))))) fun _ s17 => if (si s17 0 20) = 0 then (bnd (F_X5_settle s17 (1 : Int32)) fun _ s21 => nam (setI s21 0 30 ((si s21 0 30) - (1 : Int32))) fun s23 => nam (setI s23 0 31 ((si s23 0 31) - (1 : Int32))) fun s25 => some ((2 : Int32), s25)) else (some ((2 : Int32), s17)) := by
    unfold F_X5_behindTest
    rw [K_1476, e_X5_isWord h.1.1 wd_24 hs_24, bnd_s, if_pos (show iI (bZ (tokIs T n p (strB 24))) = 0 by rw [bZ_f ho.1]; rfl), K_498, e_X5_isWord h.1.1 wd_25 hs_25, bnd_s, if_pos (show iI (bZ (tokIs T n p (strB 25))) = 0 by rw [bZ_f ho.2]; rfl), e_X5_inner h.2.1, bnd_s, hi, if_neg (show ¬ iI 31 = (-1 : Int32) by decide), show (41 : Int32) = iI 41 from rfl, e_X5_isSign h.1.1 (by unfold sgC; omega), bnd_s]
    rfl
  constructor
  · intro hc
    obtain ⟨t1, e1, g1, f1⟩ := (e_must h.1 (P := tokIs T n p (strB 20))).1 hc
    have r1 := h.nx g1 f1 hnx.1
    obtain ⟨t2, e2, r2, f2⟩ := r1.settle (k := 1) (by omega) (by show (0 : Int) < 1; omega) (fun y hy => (hq y hy).1)
    obtain ⟨t3, e3, r3, f3⟩ := r2.pop
    refine ⟨t3, Go.one h.1.2.1 (by omega) ?_, r3, (f1.le fun _ _ => Or.inl).tr ((f2.tr f3).le fun _ _ => Or.inr)⟩
    rw [tu2, pre, e1, bnd_s, if_pos (show si t1 0 20 = 0 from g1.2.1), show F_X5_settle t1 (1 : Int32) = some ((), t2) from e2, bnd_s, nam_v, nam_v, show si (setI t2 0 30 (si t2 0 30 - 1)) 0 31 = si t2 0 31 by rw [si_set, if_pos rfl, if_neg (by omega)], e3]
    rfl
  · intro hc
    obtain ⟨t1, e1, g1, f1⟩ := (e_must h.1 (P := tokIs T n p (strB 20))).2 hc
    refine ⟨t1, Go.one h.1.2.1 (by omega) ?_, h.bd g1 f1, f1.le fun _ _ => Or.inl⟩
    rw [tu2, pre, e1, bnd_s, g1.2.1, if_neg (show ¬ iI 1 = (0 : Int32) by decide)]
    rfl
/-- a sum is compared -/
noncomputable def cmpC (T : Nat → Int) (n p : Nat) : Int := @ite _ (tokIs T n p (strB 21)) (Classical.propDecidable _) 25 (@ite _ (tokIs T n p (strB 22)) (Classical.propDecidable _) 26 27)
theorem cmpC_r {T : Nat → Int} {n p : Nat} : 25 ≤ cmpC T n p ∧ cmpC T n p ≤ 27 := by
  unfold cmpC
  split
  · omega
  · split <;> omega
theorem cmpC_g {T : Nat → Int} {n p : Nat} (hp : p ≤ n) (h : cmpOp T n p) : ((T p = 60 ∧ cmpC T n p = 25) ∨ (T p = 62 ∧ cmpC T n p = 26) ∨ (T p = 61 ∧ cmpC T n p = 27)) ∧ p < n := by
  have no : ∀ i j, i < 45 → j < 45 → i ≠ j → tokIs T n p (strB i) → ¬ tokIs T n p (strB j) := fun i j hi hj hne h h' => hne (str_un hi hj h h')
  unfold cmpC
  rcases h with h | h | h
  · have := tokC (c := 60) rfl hp h
    rw [if_pos h]
    omega
  · have := tokC (c := 62) rfl hp h
    rw [if_neg (no 22 21 (by omega) (by omega) (by omega) h), if_pos h]
    omega
  · have := tokC (c := 61) rfl hp h
    rw [if_neg (no 23 21 (by omega) (by omega) (by omega) h), if_neg (no 23 22 (by omega) (by omega) (by omega) h)]
    omega
theorem e_163 {ord : Bool} {t : St} {T : Nat → Int} {n p : Nat} {P : List (Int × Nat)} {C : CD} {nc l d : Nat} (h : RdM ord t T n p P C nc l d) (ho : sumC T n p = -1) (hi : innZ P ≠ 32) : F_X5_behindSum t (iI 1) = F_X5_behindSum_163 t := by
  have hir : -1 ≤ innZ P ∧ innZ P ≤ 32 := by
    have hr : ∀ x ∈ P, 20 ≤ x.1 ∧ x.1 ≤ 32 := fun x hx => (h.2.1.2.1 x hx).1
    clear h hi
    induction P with
    | nil => show (-1 : Int) ≤ -1 ∧ (-1 : Int) ≤ 32; omega
    | cons x r ih =>
      show -1 ≤ (if 31 ≤ x.1 then x.1 else innZ r) ∧ (if 31 ≤ x.1 then x.1 else innZ r) ≤ 32
      have := hr x List.mem_cons_self
      have := ih fun y hy => hr y (List.mem_cons_of_mem _ hy)
      split <;> omega
  rw [e_bs h.1.1, ho]
  unfold F_X5_behindSum_71
  rw [k_m1, if_pos rfl, e_X5_inner h.2.1, bnd_s, show (32 : Int32) = iI 32 from rfl, if_neg (by rw [iI_eq (by omega) (by omega)]; exact hi), if_neg (show ¬ iI 1 = (0 : Int32) by decide), ite_self]
theorem cmpD_q {q P : List (Int × Nat)} (h : ∀ y ∈ q, 20 ≤ y.1 ∧ y.1 ≤ 24) : cmpD (q ++ P) ↔ cmpD P := by
  induction q with
  | nil => exact Iff.rfl
  | cons y q ih =>
    have hy := h y List.mem_cons_self
    have := ih fun z hz => h z (List.mem_cons_of_mem _ hz)
    show ((25 ≤ y.1 ∧ y.1 ≤ 27) ∨ ((20 ≤ y.1 ∧ y.1 ≤ 24) ∧ cmpD (q ++ P))) ↔ _
    exact ⟨fun z => z.elim (fun z => by omega) fun z => this.mp z.2, fun z => Or.inr ⟨hy, this.mpr z⟩⟩
theorem cmpD_t {P : List (Int × Nat)} (h : topB P < 4) : ¬ cmpD P := by
  cases P with
  | nil => exact fun z => z
  | cons x r =>
    have h : bindZ x.1 < 4 := h
    unfold bindZ at h
    intro z
    have z : (25 ≤ x.1 ∧ x.1 ≤ 27) ∨ ((20 ≤ x.1 ∧ x.1 ≤ 24) ∧ cmpD r) := z
    rcases z with z | z <;> omega
/-- the sum behind the sign is read -/
theorem bs_told {ord : Bool} {t : St} {T : Nat → Int} {n p : Nat} {q P : List (Int × Nat)} {C : CD} {nc l d : Nat} {o : Int} (h : RdM ord t T n p (q ++ (o, 0) :: P) C nc l d) (ho : sumC T n p = -1) (hi : innZ P ≠ 32) (h25 : 25 ≤ o ∧ o ≤ 27) (hq : ∀ y ∈ q, 20 ≤ y.1 ∧ y.1 ≤ 24) : Go (iI 1) t 3 t 2 1 := by
  refine Go.one h.1.2.1 (by omega) ?_
  have hc : cmpD (q ++ (o, 0) :: P) := (cmpD_q hq).mpr (Or.inl h25)
  have hi2 : innZ (q ++ (o, 0) :: P) ≠ 32 := by
    rw [innZ_q fun y hy => by have := hq y hy; omega]
    show (if 31 ≤ o then o else innZ P) ≠ 32
    rw [if_neg (by omega)]
    exact hi
  rw [tu3, e_163 h ho hi2]
  unfold F_X5_behindSum_163
  rw [e_X5_isCompared h.2.1, bnd_s, bZ_t hc, if_neg (by decide)]
  rfl
/-- a sign that compares -/
theorem bs_cmp {ord : Bool} {t : St} {T : Nat → Int} {n p : Nat} {q P : List (Int × Nat)} {C : CD} {nc l d : Nat} (h : RdM ord t T n p (q ++ P) C nc l d) (ho : sumC T n p = -1) (hi : innZ P ≠ 32) (hP : topB P < 4) (hq : ∀ y ∈ q, 5 ≤ bindZ y.1 ∧ 20 ≤ y.1 ∧ y.1 ≤ 24) : (cmpOp T n p → ∃ t', Go (iI 1) t 3 t' 1 1 ∧ RdM ord t' T n (nxt T n p) ((cmpC T n p, 0) :: P) (stC q (C, nc)).1 (stC q (C, nc)).2 l d ∧ Fm Sex t t') ∧ (¬ cmpOp T n p → ∃ t', Go (iI 1) t 3 t' 1 1 ∧ BdM ord t' T n p ∧ Fm Sex t t') := by
  have hpn := h.p
  have hnx := nxt_r (T := T) hpn.1
  have hcr := cmpC_r (T := T) (n := n) (p := p)
  have hi2 : innZ (q ++ P) ≠ 32 := by
    rw [innZ_q fun y hy => by have := hq y hy; omega]
    exact hi
  have hnc : ¬ cmpD (q ++ P) := fun z => cmpD_t hP ((cmpD_q fun y hy => (hq y hy).2).mp z)
  have pre : F_X5_behindSum t (iI 1) = F_X5_behindSum_224 t (iI (cmpC T n p)) (iI (bZ (cmpOp T n p))) := by
    rw [e_163 h ho hi2]
    unfold F_X5_behindSum_163 F_X5_behindSum_202 F_X5_behindSum_219 cmpC
    rw [e_X5_isCompared h.2.1, bnd_s, bZ_f hnc, if_pos (show iI 0 = 0 from rfl), show (60 : Int32) = iI 60 from rfl, e_X5_isSign h.1.1 (by unfold sgC; omega), bnd_s]
    by_cases a : tokIs T n p (strB 21)
    · rw [if_pos a, if_neg (show ¬ iI (bZ (tokIs T n p [60])) = 0 by show ¬ iI (bZ (tokIs T n p (strB 21))) = 0; rw [bZ_t a]; decide), if_neg (by decide), bZ_t (show cmpOp T n p from Or.inl a)]
      rfl
    · rw [if_neg a, if_pos (show iI (bZ (tokIs T n p [60])) = 0 by show iI (bZ (tokIs T n p (strB 21))) = 0; rw [bZ_f a]; rfl), show (62 : Int32) = iI 62 from rfl, e_X5_isSign h.1.1 (by unfold sgC; omega), bnd_s]
      by_cases b : tokIs T n p (strB 22)
      · rw [if_pos b, if_neg (show ¬ iI (bZ (tokIs T n p [62])) = 0 by show ¬ iI (bZ (tokIs T n p (strB 22))) = 0; rw [bZ_t b]; decide), if_neg (by decide), bZ_t (show cmpOp T n p from Or.inr (Or.inl b))]
        rfl
      · rw [if_neg b, if_pos (show iI (bZ (tokIs T n p [62])) = 0 by show iI (bZ (tokIs T n p (strB 22))) = 0; rw [bZ_f b]; rfl), if_pos rfl, show (61 : Int32) = iI 61 from rfl, e_X5_isSign h.1.1 (by unfold sgC; omega), bnd_s]
        by_cases c : tokIs T n p (strB 23)
        · rw [if_neg (show ¬ iI (bZ (tokIs T n p [61])) = 0 by show ¬ iI (bZ (tokIs T n p (strB 23))) = 0; rw [bZ_t c]; decide), bZ_t (show cmpOp T n p from Or.inr (Or.inr c))]
          rfl
        · rw [if_pos (show iI (bZ (tokIs T n p [61])) = 0 by show iI (bZ (tokIs T n p (strB 23))) = 0; rw [bZ_f c]; rfl), bZ_f (show ¬ cmpOp T n p from fun z => by rcases z with z | z | z; exact a z; exact b z; exact c z)]
          rfl
  constructor
  · intro hc
    have hlt := (cmpC_g hpn.1 hc).2
    obtain ⟨t1, e1, g1, f1⟩ := (e_must h.1 (P := cmpOp T n p)).1 hc
    have r1 := h.nx g1 f1 hnx.1
    obtain ⟨t2, e2, r2, f2⟩ := r1.settle (k := 5) (by omega) (by omega) (fun y hy => (hq y hy).1)
    have hn' := hnx.2.2 hlt
    have b2 := r2.2.2.2
    have hcn : (stC q (C, nc)).2 + cnt P ≤ p := by
      rw [cnt_settled fun y hy => by have := hq y hy; omega]
      exact h.2.2.2.1
    have hPl : P.length ≤ p := by
      have := h.2.2.2.2
      rw [List.length_append] at this
      omega
    obtain ⟨t3, e3, g3, p3, w3, f3⟩ := r2.push (op := cmpC T n p) (by omega) (by omega)
    refine ⟨t3, Go.one h.1.2.1 (by omega) ?_, ⟨g3, p3, w3, by rw [cnt_cons]; split <;> omega, by simp only [List.length_cons]; omega⟩, (f1.le fun _ _ => Or.inl).tr ((f2.tr f3).le fun _ _ => Or.inr)⟩
    rw [tu3, pre]
    unfold F_X5_behindSum_224
    rw [e1, bnd_s, if_pos (show si t1 0 20 = 0 from g1.2.1), show F_X5_settle t1 (5 : Int32) = some ((), t2) from e2, bnd_s, show F_X5_push t2 (iI (cmpC T n p)) (0 : Int32) = some ((), t3) from e3, bnd_s]
    rfl
  · intro hc
    obtain ⟨t1, e1, g1, f1⟩ := (e_must h.1 (P := cmpOp T n p)).2 hc
    refine ⟨t1, Go.one h.1.2.1 (by omega) ?_, h.bd g1 f1, f1.le fun _ _ => Or.inl⟩
    rw [tu3, pre]
    unfold F_X5_behindSum_224
    rw [e1, bnd_s, g1.2.1, if_neg (show ¬ iI 1 = (0 : Int32) by decide)]
    rfl
/-- a plain sum at the place of a test -/
theorem go_01 {t : St} {T : Nat → Int} {n p : Nat} (h : TkG t T n p) (h1 : ¬ tokIs T n p (strB 18)) (h2 : ¬ tokIs T n p (strB 19)) {x1 : Int32} : Go x1 t 0 t 1 0 := fun fu => by
  cases fu with
  | zero => rfl
  | succ fu =>
    have h0 : si t 0 20 = 0 := h.2.1
    show F_X5_readExpression_20 (fu + 1) t x1 (iI 0) = F_X5_readExpression_20 (fu + 1) t x1 (iI 1)
    simp only [F_X5_readExpression_20]
    have e : F_X5_readPlain t = bnd (F_X5_readPart t) fun r9 s10 => some (r9, s10) := by
      unfold F_X5_readPlain
      rw [K_14836, e_X5_isWord h.1 wd_18 hs_18, bnd_s, if_pos (show iI (bZ (tokIs T n p (strB 18))) = 0 by rw [bZ_f h1]; rfl), show (40 : Int32) = iI 40 from rfl, e_X5_isSign h.1 (by unfold sgC; omega), bnd_s, if_pos (show iI (bZ (tokIs T n p [40])) = 0 by show iI (bZ (tokIs T n p (strB 19))) = 0; rw [bZ_f h2]; rfl)]
    rw [if_pos h0, if_pos h0, if_neg (by decide), if_pos (show iI 0 = 0 from rfl), if_neg (by decide), if_neg (by decide), if_pos (show iI 1 = 1 from rfl), e]
    cases F_X5_readPart t with
    | none => rfl
    | some x => rfl
theorem SumI.u0 {ord : Bool} {lev : Int} {x1 : Int32} {t : St} {T : Nat → Int} {n p : Nat} {P : List (Int × Nat)} {C : CD} {nc d : Nat} {f : DS} {p' l' : Nat} (h : SumI ord lev x1 t 1 T n p P C nc d f p' l') (g : Go x1 t 0 t 1 0) : SumI ord lev x1 t 0 T n p P C nc d f p' l' := by
  obtain ⟨t', j, q, C', nc', g', r⟩ := h
  have := g.tr g'
  rw [Nat.zero_add] at this
  exact ⟨t', j, q, C', nc', this, r⟩
/-! a test that isn't denied -/
theorem e_pos {ord : Bool} {T : Nat → Int} {n d : Nat} {rec : Nat → Nat → Nat → PR DT} (hrec : d < 8 → ∀ t p l P C nc, RdM ord t T n p P C nc l (d + 1) → l ≤ 50 → topB P < 1 → innZ P ≠ 32 → TstO ord 1 (iI 1) t 0 T n p P C nc (d + 1) (rec (d + 1) p l)) (hend : ∀ p l f p' l', rec (d + 1) p l = .inr (f, p', l') → ¬ tokIs T n p' (strB 24) ∧ ¬ tokIs T n p' (strB 25)) (hd : d ≤ 8) : ∀ t p l P C nc, RdM ord t T n p P C nc l d → l ≤ 50 → topB P < 4 → innZ P ≠ 32 → ¬ tokIs T n p (strB 18) → TstO ord 4 (iI 1) t 0 T n p P C nc d (posT T n (valV ord T n) rec d p l) := by
  intro t p l P C nc h hl hP hi hn18
  have hpn := h.p
  have hnx := nxt_r (T := T) hpn.1
  unfold posT
  by_cases a : tokIs T n p (strB 19)
  · have hlt := tok_lt hpn.1 (by show 1 ≤ 1; omega) a
    rw [if_pos a]
    have eo := e_openB h hlt (op := 31) (Or.inl rfl) hd
    have e0 : ∀ t', F_X5_openBracket t (iI 31) = some ((), t') → F_X5_readPlain t = some (iI 0, t') := fun t' e => by
      unfold F_X5_readPlain
      rw [K_14836, e_X5_isWord h.1.1 wd_18 hs_18, bnd_s, if_pos (show iI (bZ (tokIs T n p (strB 18))) = 0 by rw [bZ_f hn18]; rfl), show (40 : Int32) = iI 40 from rfl, e_X5_isSign h.1.1 (by unfold sgC; omega), bnd_s, if_neg (show ¬ iI (bZ (tokIs T n p [40])) = 0 by show ¬ iI (bZ (tokIs T n p (strB 19))) = 0; rw [bZ_t a]; decide), show (31 : Int32) = iI 31 from rfl, e, bnd_s]
      rfl
    by_cases b : d = 8
    · obtain ⟨t', e, hb, f⟩ := eo.2 b
      rw [if_pos b]
      exact ⟨t', 0, 1, Go.one h.1.2.1 (by omega) (by rw [tu0]; exact e0 t' e), by omega, hb, f⟩
    · obtain ⟨t1, e, r1, f1⟩ := eo.1 (by omega)
      have g1 : Go (iI 1) t 0 t1 0 1 := Go.one h.1.2.1 (by omega) (by rw [tu0]; exact e0 t1 e)
      have hlt2 := hnx.2.2 hlt
      have ih := hrec (by omega) t1 (nxt T n p) l ((31, 0) :: P) C nc r1 hl (by show (0 : Int) < 1; omega) (by show (31 : Int) ≠ 32; omega)
      have he := hend (nxt T n p) l
      rw [if_neg b]
      generalize rec (d + 1) (nxt T n p) l = R at ih he ⊢
      rcases R with q | ⟨f, p', l'⟩
      · exact BadI.after ih g1 f1 (by omega) (by omega)
      · obtain ⟨t2, j, q, C2, nc2, g2, hj, r2, f2, hq, hC, hn, hcl, hp', hl'⟩ := ih
        obtain ⟨c1, c2⟩ := bt_close (x1 := iI 1) r2 (he f p' l' rfl) (fun y hy => ⟨(hq y hy).1, (hq y hy).2.1⟩)
        show TstO ord 4 (iI 1) t 0 T n p P C nc d (@ite _ (tokIs T n p' (strB 20)) (Classical.propDecidable _) (.inr (f, nxt T n p', l')) (.inl p'))
        have hnx' := nxt_r (T := T) hp'.2
        by_cases c : tokIs T n p' (strB 20)
        · obtain ⟨t3, g3, r3, f3⟩ := c1 c
          have hlt' := tok_lt hp'.2 (by show 1 ≤ 1; omega) c
          have hlo := stC_lo (lo := nc) q C2 nc2 (by omega) (fun y hy z => (hq y hy).2.2 z)
          have := hnx'.2.2 hlt'
          rw [if_pos c]
          refine ⟨t3, 1 + j + 1, [], _, _, (g1.tr g2).tr g3, by omega, r3, (f1.tr f2).tr f3, fun y hy => absurd hy List.not_mem_nil, fun k hk => ?_, by omega, hcl, ⟨by omega, hnx'.2.1⟩, hl'⟩
          rw [hlo.2 k (by omega), hC k hk]
        · obtain ⟨t3, g3, b3, f3⟩ := c2 c
          rw [if_neg c]
          exact ⟨t3, 2, 1 + j + 1, (g1.tr g2).tr g3, by omega, b3, (f1.tr f2).tr f3⟩
  · rw [if_neg a]
    have g01 : Go (iI 1) t 0 t 1 0 := go_01 h.1 hn18 a
    have h1 := e_sum (ord := ord) (x1 := iI 1) (T := T) (n := n) 12 d (by omega) hd t p l P C nc h hl (by omega)
    have en := sum_end (T := T) (n := n) (V := valV ord T n) 12 d p l
    generalize sumP T n (valV ord T n) 12 d p l = R at h1 en ⊢
    rcases R with q | ⟨f, p', l'⟩
    · exact BadI.after h1 g01 Fm.rf (by omega) (by omega)
    · obtain ⟨t1, j, q, C1, nc1, g1, hj, r1, f1, hq, hC, hn, hcl, hp', hl'⟩ := h1
      obtain ⟨c1, c2⟩ := bs_cmp r1 (en f p' l' rfl) hi hP hq
      have hnx' := nxt_r (T := T) hp'.2
      show TstO ord 4 (iI 1) t 0 T n p P C nc d (@ite _ (cmpOp T n p') (Classical.propDecidable _) (match sumP T n (valV ord T n) 12 d (nxt T n p') l' with
        | .inl q => .inl q
        | .inr (g, p'', l'') => .inr (dCmp (T p') f g, p'', l'')) (.inl p'))
      by_cases c : cmpOp T n p'
      · obtain ⟨hg, hlt'⟩ := cmpC_g hp'.2 c
        obtain ⟨t2, g2, r2, f2⟩ := c1 c
        have hcr := cmpC_r (T := T) (n := n) (p := p')
        have hlt2 := hnx'.2.2 hlt'
        have h2 := e_sum (ord := ord) (x1 := iI 1) (T := T) (n := n) 12 d (by omega) hd t2 (nxt T n p') l' ((cmpC T n p', 0) :: P) _ _ r2 hl' (by show bindZ (cmpC T n p') < 5; unfold bindZ; omega)
        have en2 := sum_end (T := T) (n := n) (V := valV ord T n) 12 d (nxt T n p') l'
        rw [if_pos c]
        generalize sumP T n (valV ord T n) 12 d (nxt T n p') l' = R2 at h2 en2 ⊢
        have g012 := (g01.tr g1).tr g2
        rcases R2 with q2 | ⟨f2', p2, l2⟩
        · exact BadI.after h2 g012 (f1.tr f2) (by omega) (by omega)
        · obtain ⟨t3, j3, q3, C3, nc3, g3, hj3, r3, f3, hq3, hC3, hn3, hcl3, hp3, hl3⟩ := h2
          have g4 := bs_told r3 (en2 f2' p2 l2 rfl) hi hcr fun y hy => (hq3 y hy).2
          have hlo := stC_lo (lo := nc1) q C1 nc1 (Nat.le_refl _) (fun y hy z => by have := hq y hy; unfold jmpO at z; omega)
          refine ⟨t3, 0 + j + 1 + j3 + 1, q3 ++ [(cmpC T n p', 0)], C3, nc3, (g012.tr g3).tr g4, by omega, ?_, (f1.tr f2).tr f3, fun y hy => ?_, fun k hk => ?_, by omega, ?_, by omega, hl3⟩
          · rw [List.append_assoc]
            exact r3
          · rcases List.mem_append.mp hy with hy | hy
            · have := hq3 y hy
              exact ⟨by omega, by omega, fun z => by unfold jmpO at z; omega⟩
            · rw [List.mem_singleton.mp hy]
              refine ⟨?_, ?_, fun z => ?_⟩
              · show 4 ≤ bindZ (cmpC T n p'); unfold bindZ; omega
              · show 20 ≤ cmpC T n p' ∧ cmpC T n p' ≤ 30; omega
              · have z : cmpC T n p' = 29 ∨ cmpC T n p' = 30 := z
                omega
          · rw [hC3 k (by omega), hlo.2 k (by omega), hC k hk]
          · have hlo3 := stC_lo (lo := nc3) q3 C3 nc3 (Nat.le_refl _) (fun y hy z => by have := hq3 y hy; unfold jmpO at z; omega)
            rw [stC_app]
            generalize hS : stC q3 (C3, nc3) = S at hcl3 hlo3 ⊢
            obtain ⟨C4, nc4⟩ := S
            have e4 : stC [(cmpC T n p', 0)] (C4, nc4) = (upC C4 nc4 (cmpC T n p', 0), nc4 + 1) := by
              rw [stC_cons, if_neg (fun z => by have z : cmpC T n p' = 29 ∨ cmpC T n p' = 30 := z; omega)]
              rfl
            rw [e4]
            have hc4 : ∀ k, k < nc3 → C4 k = C3 k := hlo3.2
            have hn4 : nc3 ≤ nc4 := hlo3.1
            have hcl3' : ClS ord C4 (stC q (C1, nc1)).2 nc4 f2' := hcl3
            refine ClT.cmp (hcl.ext fun k k1 k2 => ?_) (hcl3'.ext fun k k1 k2 => upC_n (by omega)) upC_s hg
            show upC C4 nc4 (cmpC T n p', 0) k = _
            rw [upC_n (by omega), hc4 k (by omega), hC3 k k2]
      · obtain ⟨t2, g2, b2, f2⟩ := c2 c
        rw [if_neg c]
        exact ⟨t2, 1, 0 + j + 1, (g01.tr g1).tr g2, by omega, b2, f1.tr f2⟩
