set_option maxRecDepth 100000
/-! ===== the model's reader: the pile and the code ===== -/
def PilE (t : St) : List (Int × Nat) → Prop
  | [] => True
  | x :: r => (si t 14 r.length = iI x.1 ∧ si t 15 r.length = iI (x.2 : Int)) ∧ PilE t r
def ordI (ord : Bool) : Int := if ord then 1 else 0
def CodR (t : St) (C : CD) (nc : Nat) : Prop := si t 0 24 = iI nc ∧ ∀ k, k < nc → si t 12 k = iI (C k).1 ∧ si t 13 k = iI (C k).2
def PcE (ord : Bool) (t : St) (P : List (Int × Nat)) (C : CD) (nc l d : Nat) : Prop := (PilE t P ∧ si t 0 30 = iI P.length) ∧ (∀ x ∈ P, (20 ≤ x.1 ∧ x.1 ≤ 32) ∧ x.2 ≤ 400 ∧ (jmpO x → x.2 < nc)) ∧ CodR t C nc ∧ (si t 0 27 = iI l ∧ si t 0 31 = iI d ∧ si t 0 21 = iI (ordI ord)) ∧ (nc + cnt P ≤ 400 ∧ P.length ≤ 400)
theorem PilE.go {t t' : St} : ∀ {P : List (Int × Nat)}, PilE t P → (∀ k, k < P.length → si t' 14 k = si t 14 k ∧ si t' 15 k = si t 15 k) → PilE t' P
  | [], _, _ => trivial
  | x :: r, h, g => ⟨⟨by rw [(g r.length (by simp)).1]; exact h.1.1, by rw [(g r.length (by simp)).2]; exact h.1.2⟩, PilE.go h.2 fun k hk => g k (by simp only [List.length_cons]; omega)⟩
theorem CodR.go {S : Nat → Nat → Prop} {t t' : St} {C : CD} {nc : Nat} (h : CodR t C nc) (hf : Fm S t t') (hS : ¬ S 0 24 ∧ ∀ k, ¬ S 12 k ∧ ¬ S 13 k) : CodR t' C nc := ⟨by rw [hf.i _ _ hS.1]; exact h.1, fun k hk => by rw [hf.i _ _ (hS.2 k).1, hf.i _ _ (hS.2 k).2]; exact h.2 k hk⟩
theorem PcE.go {S : Nat → Nat → Prop} {ord : Bool} {t t' : St} {P : List (Int × Nat)} {C : CD} {nc l d : Nat} (h : PcE ord t P C nc l d) (hf : Fm S t t') (hS : (∀ j, 21 ≤ j → j ≤ 31 → ¬ S 0 j) ∧ ∀ a k, 12 ≤ a → a ≤ 15 → ¬ S a k) : PcE ord t' P C nc l d :=
  ⟨⟨h.1.1.go fun k _ => ⟨hf.i _ _ (hS.2 14 k (by omega) (by omega)), hf.i _ _ (hS.2 15 k (by omega) (by omega))⟩, by rw [hf.i _ _ (hS.1 30 (by omega) (by omega))]; exact h.1.2⟩, h.2.1, h.2.2.1.go hf ⟨hS.1 24 (by omega) (by omega), fun k => ⟨hS.2 12 k (by omega) (by omega), hS.2 13 k (by omega) (by omega)⟩⟩, ⟨by rw [hf.i _ _ (hS.1 27 (by omega) (by omega))]; exact h.2.2.2.1.1, by rw [hf.i _ _ (hS.1 31 (by omega) (by omega))]; exact h.2.2.2.1.2.1, by rw [hf.i _ _ (hS.1 21 (by omega) (by omega))]; exact h.2.2.2.1.2.2⟩, h.2.2.2.2⟩
/-- what the pile and the code are written in -/
def Spc (a j : Nat) : Prop := (a = 0 ∧ (j = 24 ∨ j = 27 ∨ j = 30 ∨ j = 31)) ∨ (12 ≤ a ∧ a ≤ 15)
theorem e_X5_push {ord : Bool} {t : St} {P : List (Int × Nat)} {C : CD} {nc l d : Nat} (h : PcE ord t P C nc l d) {op : Int} {at_ : Nat} (ho : 20 ≤ op ∧ op ≤ 32) (ha : at_ ≤ 400) (hj : jmpO (op, at_) → at_ < nc ∨ at_ = nc) (hl : P.length < 400) (hn : nc + cnt ((op, at_) :: P) ≤ 400) : ∃ t', F_X5_push t (iI op) (iI (at_ : Int)) = some ((), t') ∧ ((PilE t' ((op, at_) :: P) ∧ si t' 0 30 = iI ((op, at_) :: P).length) ∧ CodR t' C nc ∧ (si t' 0 27 = iI l ∧ si t' 0 31 = iI d ∧ si t' 0 21 = iI (ordI ord))) ∧ Fm Spc t t' := by
  obtain ⟨⟨h1, h2⟩, h3, h4, h5, h6⟩ := h
  have f : Fm (fun a j => (a = 0 ∧ j = 30) ∨ (a = 14 ∧ j = P.length) ∨ (a = 15 ∧ j = P.length)) t (setI (setI (setI t 14 P.length (iI op)) 15 P.length (iI (at_ : Int))) 0 30 (iI ((P.length + 1 : Nat) : Int))) := ((Fm.set (by omega)).tr (Fm.set (by omega))).tr (Fm.set (by omega))
  unfold F_X5_push
  rw [h2, inb_g (by omega), iI_nat (by omega), Int.toNat_natCast, nam_v, show si (setI t 14 P.length (iI op)) 0 30 = iI P.length from h2, inb_g (by omega), iI_nat (by omega), Int.toNat_natCast, nam_v, show si (setI (setI t 14 P.length (iI op)) 15 P.length (iI (at_ : Int))) 0 30 = iI P.length from h2, iI_su, nam_v]
  refine ⟨_, rfl, ⟨⟨⟨⟨?_, ?_⟩, h1.go fun k hk => ⟨f.i _ _ (by omega), f.i _ _ (by omega)⟩⟩, ?_⟩, h4.go f ⟨by omega, fun k => by omega⟩, by rw [f.i _ _ (by omega)]; exact h5.1, by rw [f.i _ _ (by omega)]; exact h5.2.1, by rw [f.i _ _ (by omega)]; exact h5.2.2⟩, f.le fun a j z => by unfold Spc; omega⟩
  · rw [si_set, if_neg (by omega), si_set, if_neg (by omega), si_set, if_pos rfl, if_pos rfl]
  · rw [si_set, if_neg (by omega), si_set, if_pos rfl, if_pos rfl]
  · rw [si_set, if_pos rfl, if_pos rfl]
    rfl
theorem CodR.emit {t : St} {C : CD} {nc : Nat} (h : CodR t C nc) (hn : nc < 400) {op arg : Int} : ∃ t', F_X5_emit t (iI op) (iI arg) = some ((), t') ∧ CodR t' (upC C nc (op, arg)) (nc + 1) ∧ Fm (fun a j => (a = 0 ∧ j = 24) ∨ ((a = 12 ∨ a = 13) ∧ j = nc)) t t' := by
  obtain ⟨h1, h2⟩ := h
  have f : Fm (fun a j => (a = 0 ∧ j = 24) ∨ ((a = 12 ∨ a = 13) ∧ j = nc)) t (setI (setI (setI t 12 nc (iI op)) 13 nc (iI arg)) 0 24 (iI ((nc + 1 : Nat) : Int))) := ((Fm.set (by omega)).tr (Fm.set (by omega))).tr (Fm.set (by omega))
  unfold F_X5_emit
  rw [h1, inb_g (by omega), iI_nat (by omega), Int.toNat_natCast, nam_v, show si (setI t 12 nc (iI op)) 0 24 = iI nc from h1, inb_g (by omega), iI_nat (by omega), Int.toNat_natCast, nam_v, show si (setI (setI t 12 nc (iI op)) 13 nc (iI arg)) 0 24 = iI nc from h1, iI_su, nam_v]
  refine ⟨_, rfl, ⟨by rw [si_set, if_pos rfl, if_pos rfl], fun k hk => ?_⟩, f⟩
  by_cases e : k = nc
  · rw [e, upC_s]
    constructor
    · rw [si_set, if_neg (by omega), si_set, if_neg (by omega), si_set, if_pos rfl, if_pos rfl]
    · rw [si_set, if_neg (by omega), si_set, if_pos rfl, if_pos rfl]
  · rw [upC_n e, f.i _ _ (by omega), f.i _ _ (by omega)]
    exact h2 k (by omega)
/-! settling -/
def bindZ (op : Int) : Int := if 31 ≤ op then 0 else if op = 30 then 1 else if op = 29 then 2 else if op = 28 then 3 else if 25 ≤ op then 4 else if 22 ≤ op then 6 else 5
theorem e_X5_binds (t : St) {op : Int} (h : 20 ≤ op ∧ op ≤ 32) : F_X5_binds t (iI op) = some (iI (bindZ op), t) := by
  have : op = 20 ∨ op = 21 ∨ op = 22 ∨ op = 23 ∨ op = 24 ∨ op = 25 ∨ op = 26 ∨ op = 27 ∨ op = 28 ∨ op = 29 ∨ op = 30 ∨ op = 31 ∨ op = 32 := by omega
  rcases this with rfl | rfl | rfl | rfl | rfl | rfl | rfl | rfl | rfl | rfl | rfl | rfl | rfl <;> rfl
def topB : List (Int × Nat) → Int
  | [] => -1
  | x :: _ => bindZ x.1
theorem cnt_cons {x : Int × Nat} {P : List (Int × Nat)} : cnt (x :: P) = (if 20 ≤ x.1 ∧ x.1 ≤ 28 then 1 else 0) + cnt P := rfl
theorem stC_cons {y : Int × Nat} {q : List (Int × Nat)} {C : CD} {n : Nat} : stC (y :: q) (C, n) = if jmpO y then stC q (upC C y.2 ((C y.2).1, (n : Int)), n) else stC q (upC C n (y.1, 0), n + 1) := rfl
theorem e_X5_settle_0 {ord : Bool} {P : List (Int × Nat)} {l d : Nat} {k : Int} (hk : 1 ≤ k ∧ k ≤ 6) (hP : topB P < k) : ∀ (q : List (Int × Nat)) (C : CD) (nc : Nat) (t : St), PcE ord t (q ++ P) C nc l d → (∀ y ∈ q, k ≤ bindZ y.1) → ∀ fu, q.length < fu → ∃ t', F_X5_settle_0 fu t (iI k) = some ((), t') ∧ PcE ord t' P (stC q (C, nc)).1 (stC q (C, nc)).2 l d ∧ Fm (fun a j => (a = 0 ∧ (j = 24 ∨ j = 30)) ∨ a = 12 ∨ a = 13) t t' := by
  intro q
  induction q with
  | nil =>
    intro C nc t h hq fu hfu
    obtain ⟨g, rfl⟩ : ∃ g, fu = g + 1 := ⟨fu - 1, by omega⟩
    refine ⟨t, ?_, h, Fm.rf⟩
    obtain ⟨⟨h1, h2⟩, h3, h4, h5, h6⟩ := h
    simp only [F_X5_settle_0]
    cases P with
    | nil =>
      have : si t 0 30 = iI 0 := h2
      rw [this, if_pos (by decide)]
    | cons x r =>
      have hl : (x :: r).length ≤ 400 := h6.2
      have h2 : si t 0 30 = iI ((r.length + 1 : Nat) : Int) := h2
      have hx := h3 x List.mem_cons_self
      have hb : bindZ x.1 < k := hP
      have h14 : si t 14 r.length = iI x.1 := h1.1.1
      simp only [List.length_cons] at hl
      have hbr : 0 ≤ bindZ x.1 ∧ bindZ x.1 ≤ 6 := by unfold bindZ; omega
      rw [h2, k_0, if_neg (by rw [iI_le (by omega) (by omega)]; omega), k_1, iI_sub, inb_g (by omega), show (iI (((r.length + 1 : Nat) : Int) - 1)).toNatClampNeg = r.length by rw [iI_nat (by omega)]; omega, h14, e_X5_binds t hx.1, bnd_s, if_pos (by rw [iI_lt (by omega) (by omega)]; exact hb)]
  | cons y q ih =>
    intro C nc t h hq fu hfu
    obtain ⟨g, rfl⟩ : ∃ g, fu = g + 1 := ⟨fu - 1, by omega⟩
    obtain ⟨⟨h1, h2⟩, h3, h4, h5, h6⟩ := h
    have hl : (y :: (q ++ P)).length ≤ 400 := h6.2
    have h2 : si t 0 30 = iI (((q ++ P).length + 1 : Nat) : Int) := h2
    have hy := h3 y (List.mem_cons_self)
    have hb := hq y List.mem_cons_self
    have h14 : si t 14 (q ++ P).length = iI y.1 := h1.1.1
    have h15 : si t 15 (q ++ P).length = iI (y.2 : Int) := h1.1.2
    have hcn : nc + cnt (y :: (q ++ P)) ≤ 400 := h6.1
    rw [cnt_cons] at hcn
    rw [List.length_cons] at hl
    have hbr : 0 ≤ bindZ y.1 ∧ bindZ y.1 ≤ 6 := by unfold bindZ; omega
    have f1 : Fm (fun a j => a = 0 ∧ j = 30) t (setI t 0 30 (iI ((q ++ P).length : Int))) := Fm.set ⟨rfl, rfl⟩
    have g30 : si (setI t 0 30 (iI ((q ++ P).length : Int))) 0 30 = iI ((q ++ P).length : Int) := by rw [si_set, if_pos rfl, if_pos rfl]
    have g1 : PilE (setI t 0 30 (iI ((q ++ P).length : Int))) (q ++ P) := PilE.go (show PilE t (q ++ P) from h1.2) fun k _ => ⟨rfl, rfl⟩
    have g14 : si (setI t 0 30 (iI ((q ++ P).length : Int))) 14 (q ++ P).length = iI y.1 := h14
    have g15 : si (setI t 0 30 (iI ((q ++ P).length : Int))) 15 (q ++ P).length = iI (y.2 : Int) := h15
    have g4 : CodR (setI t 0 30 (iI ((q ++ P).length : Int))) C nc := h4.go f1 ⟨by omega, fun k => by omega⟩
    have g5 : si (setI t 0 30 (iI ((q ++ P).length : Int))) 0 27 = iI l ∧ si (setI t 0 30 (iI ((q ++ P).length : Int))) 0 31 = iI d ∧ si (setI t 0 30 (iI ((q ++ P).length : Int))) 0 21 = iI (ordI ord) := h5
    simp only [F_X5_settle_0]
    rw [h2, k_0, if_neg (by rw [iI_le (by omega) (by omega)]; omega), k_1, iI_sub, inb_g (by omega), show (iI ((((q ++ P).length + 1 : Nat) : Int) - 1)).toNatClampNeg = (q ++ P).length by rw [iI_nat (by omega)]; omega, h14, e_X5_binds t hy.1, bnd_s, if_neg (by rw [iI_lt (by omega) (by omega)]; omega), h2, iI_sub, show iI ((((q ++ P).length + 1 : Nat) : Int) - 1) = iI ((q ++ P).length : Int) by congr 1; omega, nam_v]
    generalize setI t 0 30 (iI ((q ++ P).length : Int)) = t1 at f1 g30 g1 g14 g15 g4 g5 ⊢
    rw [g30, inb_g (by omega), inb_g (by omega), inb_g (by omega), iI_nat (by omega), Int.toNat_natCast, g14, k_29, k_30, stC_cons]
    have h3' : ∀ nc', nc ≤ nc' → ∀ x ∈ q ++ P, (20 ≤ x.1 ∧ x.1 ≤ 32) ∧ x.2 ≤ 400 ∧ (jmpO x → x.2 < nc') := fun nc' hn x hx => by
      have := h3 x (List.mem_cons_of_mem _ hx)
      exact ⟨this.1, this.2.1, fun z => by have := this.2.2 z; omega⟩
    by_cases c : jmpO y
    · have hyn := hy.2.2 c
      have f2 : Fm (fun a j => a = 13 ∧ j = y.2) t1 (setI t1 13 y.2 (iI nc)) := Fm.set ⟨rfl, rfl⟩
      have hP2 : PcE ord (setI t1 13 y.2 (iI nc)) (q ++ P) (upC C y.2 ((C y.2).1, (nc : Int))) nc l d := by
        refine ⟨⟨g1.go fun k hk => ⟨rfl, rfl⟩, g30⟩, h3' nc (Nat.le_refl _), ⟨g4.1, fun k hk => ?_⟩, g5, ?_⟩
        · by_cases e : k = y.2
          · rw [e, upC_s]
            exact ⟨(g4.2 y.2 hyn).1, by rw [si_set, if_pos rfl, if_pos rfl]⟩
          · rw [upC_n e, f2.i _ _ (by omega), f2.i _ _ (by omega)]
            exact g4.2 k hk
        · omega
      obtain ⟨t', e', h1', f'⟩ := ih _ nc _ hP2 (fun z hz => hq z (List.mem_cons_of_mem _ hz)) g (by simp only [List.length_cons] at hfu; omega)
      rw [if_pos c]
      have s63 : F_X5_settle_63 (F_X5_settle_0 g) t1 (iI k) = F_X5_settle_0 g (setI t1 13 y.2 (iI nc)) (iI k) := by
        unfold F_X5_settle_63
        rw [g30, inb_g (by omega), iI_nat (by omega), Int.toNat_natCast, g15, inb_g (by omega), iI_nat (by omega), Int.toNat_natCast, g4.1, nam_v]
      refine ⟨t', ?_, h1', ((f1.le fun a j z => by omega).tr (f2.le fun a j z => by omega)).tr f'⟩
      rw [s63, e']
      unfold jmpO at c
      rcases c with c | c
      · rw [if_pos (by rw [c])]
      · rw [if_neg (by rw [c]; decide), if_pos (by rw [c])]
    · have hy20 : 20 ≤ y.1 ∧ y.1 ≤ 28 := by
        unfold jmpO at c
        have hyb : 1 ≤ bindZ y.1 := by omega
        unfold bindZ at hyb
        omega
      rw [if_pos hy20] at hcn
      obtain ⟨t2, e2, h4', f2⟩ := g4.emit (op := y.1) (arg := 0) (by omega)
      have hP2 : PcE ord t2 (q ++ P) (upC C nc (y.1, 0)) (nc + 1) l d := by
        refine ⟨⟨g1.go fun k hk => ⟨f2.i _ _ (by omega), f2.i _ _ (by omega)⟩, by rw [f2.i _ _ (by omega)]; exact g30⟩, h3' (nc + 1) (by omega), h4', ⟨by rw [f2.i _ _ (by omega)]; exact g5.1, by rw [f2.i _ _ (by omega)]; exact g5.2.1, by rw [f2.i _ _ (by omega)]; exact g5.2.2⟩, ?_⟩
        omega
      obtain ⟨t', e', h1', f'⟩ := ih _ (nc + 1) t2 hP2 (fun z hz => hq z (List.mem_cons_of_mem _ hz)) g (by simp only [List.length_cons] at hfu; omega)
      rw [if_neg c]
      unfold jmpO at c
      rw [if_neg (by rw [iI_eq (by omega) (by omega)]; omega), if_neg (by rw [iI_eq (by omega) (by omega)]; omega), e2, bnd_s]
      exact ⟨t', e', h1', ((f1.le fun a j z => by omega).tr (f2.le fun a j z => by omega)).tr f'⟩
theorem e_X5_settle {ord : Bool} {P q : List (Int × Nat)} {l d nc : Nat} {C : CD} {t : St} {k : Int} (hk : 1 ≤ k ∧ k ≤ 6) (hP : topB P < k) (h : PcE ord t (q ++ P) C nc l d) (hq : ∀ y ∈ q, k ≤ bindZ y.1) : ∃ t', F_X5_settle t (iI k) = some ((), t') ∧ PcE ord t' P (stC q (C, nc)).1 (stC q (C, nc)).2 l d ∧ Fm (fun a j => (a = 0 ∧ (j = 24 ∨ j = 30)) ∨ a = 12 ∨ a = 13) t t' := e_X5_settle_0 hk hP q C nc t h hq FU (FU_ge (by have := h.2.2.2.2.2; rw [List.length_append] at this; omega))
/-! the innermost bracket; whether a sum is compared -/
def innZ : List (Int × Nat) → Int
  | [] => -1
  | x :: r => if 31 ≤ x.1 then x.1 else innZ r
def cmpD : List (Int × Nat) → Prop
  | [] => False
  | x :: r => (25 ≤ x.1 ∧ x.1 ≤ 27) ∨ ((20 ≤ x.1 ∧ x.1 ≤ 24) ∧ cmpD r)
theorem PilE.dr {t : St} : ∀ {P : List (Int × Nat)} (k : Nat), PilE t P → PilE t (P.drop k)
  | [], _, _ => by simp only [List.drop_nil]; trivial
  | x :: r, 0, h => h
  | x :: r, k + 1, h => PilE.dr (P := r) k h.2
theorem e_X5_inner_4 {t : St} {P : List (Int × Nat)} (h1 : PilE t P) (h2 : si t 0 30 = iI P.length) (hl : P.length ≤ 400) (hr : ∀ x ∈ P, 20 ≤ x.1 ∧ x.1 ≤ 32) : ∀ (n k : Nat), P.length = n + k → ∀ fu, n < fu → F_X5_inner_4 fu t (iI (innZ (P.drop n))) (iI k) = some (iI (innZ P), t) := by
  intro n
  induction n with
  | zero =>
    intro k hk fu hfu
    obtain ⟨g, rfl⟩ : ∃ g, fu = g + 1 := ⟨fu - 1, by omega⟩
    simp only [F_X5_inner_4]
    rw [h2, if_pos (by rw [iI_le (by omega) (by omega)]; omega), List.drop_zero]
  | succ n ih =>
    intro k hk fu hfu
    obtain ⟨g, rfl⟩ : ∃ g, fu = g + 1 := ⟨fu - 1, by omega⟩
    have hlt : n < P.length := by omega
    have hd : P.drop n = P[n] :: P.drop (n + 1) := (List.drop_eq_getElem_cons hlt)
    have hp := h1.dr n
    rw [hd] at hp
    have hlen : (P.drop (n + 1)).length = k := by rw [List.length_drop]; omega
    have h14 : si t 14 k = iI P[n].1 := by rw [← hlen]; exact hp.1.1
    have hx := hr _ (List.getElem_mem hlt)
    have := ih (k + 1) (by omega) g (by omega)
    rw [hd, innZ] at this
    simp only [F_X5_inner_4]
    rw [h2, if_neg (by rw [iI_le (by omega) (by omega)]; omega), inb_g (by omega), iI_nat (by omega), Int.toNat_natCast, h14, k_31, iI_su]
    by_cases c : 31 ≤ P[n].1
    · rw [if_pos c] at this
      rw [if_neg (by rw [iI_lt (by omega) (by omega)]; omega), inb_g (by omega)]
      exact this
    · rw [if_neg c] at this
      rw [if_pos (by rw [iI_lt (by omega) (by omega)]; omega)]
      exact this
theorem e_X5_inner {ord : Bool} {t : St} {P : List (Int × Nat)} {C : CD} {nc l d : Nat} (h : PcE ord t P C nc l d) : F_X5_inner t = some (iI (innZ P), t) := by
  obtain ⟨⟨h1, h2⟩, h3, h4, h5, h6⟩ := h
  have := e_X5_inner_4 h1 h2 h6.2 (fun x hx => (h3 x hx).1) P.length 0 (by omega) FU (FU_ge (by omega))
  rw [List.drop_length] at this
  exact this
theorem e_X5_isCompared_36 {t : St} {P : List (Int × Nat)} (h1 : PilE t P) (hl : P.length ≤ 400) (hr : ∀ x ∈ P, 20 ≤ x.1 ∧ x.1 ≤ 32) (hn : ∀ x r, P = x :: r → ¬ (20 ≤ x.1 ∧ x.1 ≤ 24)) : F_X5_isCompared_36 t (iI ((P.length : Int) - 1)) = some (iI (bZ (cmpD P)), t) := by
  unfold F_X5_isCompared_36
  rw [k_0]
  cases P with
  | nil => rw [if_pos (by rw [iI_lt (by decide) (by decide)]; decide), bZ_f (show ¬ cmpD [] from fun z => z)]
  | cons x r =>
    have hl : r.length + 1 ≤ 400 := hl
    have h14 : si t 14 r.length = iI x.1 := h1.1.1
    have hx := hr x List.mem_cons_self
    have hnx := hn x r rfl
    have e : (((x :: r).length : Nat) : Int) - 1 = (r.length : Int) := by simp only [List.length_cons]; omega
    rw [e, if_neg (by rw [iI_lt (by omega) (by omega)]; omega), inb_g (by omega), iI_nat (by omega), Int.toNat_natCast, h14, iI_l (by omega), K_25, K_27, e_X5_in t (by omega) (by omega) (by omega), bnd_s, k_1]
    by_cases c : 25 ≤ x.1 ∧ x.1 ≤ 27
    · rw [if_neg (by rw [bZ_i0]; exact fun z => z c), bZ_t (show cmpD (x :: r) from Or.inl c)]
    · rw [if_pos (by rw [bZ_i0]; exact c), bZ_f (show ¬ cmpD (x :: r) from fun z => z.elim c fun y => hnx y.1)]
theorem e_X5_isCompared_7 {t : St} : ∀ (P : List (Int × Nat)), PilE t P → P.length ≤ 400 → (∀ x ∈ P, 20 ≤ x.1 ∧ x.1 ≤ 32) → ∀ fu, P.length < fu → F_X5_isCompared_7 fu t (iI ((P.length : Int) - 1)) = some (iI (bZ (cmpD P)), t) := by
  intro P
  induction P with
  | nil =>
    intro h1 hl hr fu hfu
    obtain ⟨g, rfl⟩ : ∃ g, fu = g + 1 := ⟨fu - 1, by omega⟩
    have := e_X5_isCompared_36 (P := []) h1 hl hr fun x r e => by cases e
    simp only [F_X5_isCompared_7]
    rw [k_0, if_pos (show iI ((([] : List (Int × Nat)).length : Int) - 1) < iI 0 by rw [iI_lt (by decide) (by decide)]; decide)]
    exact this
  | cons x r ih =>
    intro h1 hl hr fu hfu
    obtain ⟨g, rfl⟩ : ∃ g, fu = g + 1 := ⟨fu - 1, by omega⟩
    have h14 : si t 14 r.length = iI x.1 := h1.1.1
    have hx := hr x List.mem_cons_self
    have hl' : r.length + 1 ≤ 400 := hl
    have e : (((x :: r).length : Nat) : Int) - 1 = (r.length : Int) := by simp only [List.length_cons]; omega
    simp only [F_X5_isCompared_7]
    rw [e, k_0, if_neg (by rw [iI_lt (by omega) (by omega)]; omega), inb_g (by omega), iI_nat (by omega), Int.toNat_natCast, h14, iI_l (by omega), K_20, K_24, e_X5_in t (by omega) (by omega) (by omega), bnd_s]
    by_cases c : 20 ≤ x.1 ∧ x.1 ≤ 24
    · rw [if_neg (by rw [bZ_i0]; exact fun z => z c), k_m1, iI_add, show (r.length : Int) + -1 = (r.length : Int) - 1 by omega, ih h1.2 (by omega) (fun z hz => hr z (List.mem_cons_of_mem _ hz)) g (by simp only [List.length_cons] at hfu; omega)]
      rw [show cmpD (x :: r) = cmpD r from propext ⟨fun z => z.elim (fun y => by omega) fun y => y.2, fun z => Or.inr ⟨c, z⟩⟩]
    · rw [if_pos (by rw [bZ_i0]; exact c), ← e]
      exact e_X5_isCompared_36 h1 hl hr fun y q ey => by cases ey; exact c
theorem e_X5_isCompared {ord : Bool} {t : St} {P : List (Int × Nat)} {C : CD} {nc l d : Nat} (h : PcE ord t P C nc l d) : F_X5_isCompared t = some (iI (bZ (cmpD P)), t) := by
  obtain ⟨⟨h1, h2⟩, h3, h4, h5, h6⟩ := h
  unfold F_X5_isCompared
  rw [h2, k_1, iI_sub]
  exact e_X5_isCompared_7 P h1 h6.2 (fun x hx => (h3 x hx).1) FU (FU_ge (by omega))
