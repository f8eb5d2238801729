set_option maxRecDepth 100000
/-! ===== the model's reader: clauses ===== -/
def Scl (a j : Nat) : Prop := (a = 0 ∧ j = 22) ∨ a = 11 ∨ a = 27
theorem RdW.cl {ord : Bool} {t t' : St} {T : Nat → Int} {n p : Nat} {C : CD} {nc l : Nat} (h : RdW ord t T n p C nc l) (hf : Fm Scl t t') : RdW ord t' T n p C nc l := ⟨h.1.go hf ⟨fun j _ _ => by unfold Scl; omega, fun k => by unfold Scl; omega, by unfold Scl; omega⟩, h.2.1.go hf ⟨by unfold Scl; omega, fun k => by unfold Scl; omega⟩, h.2.2.1.go hf fun a k _ _ => by unfold Scl; omega, h.2.2.2.1, by rw [hf.i _ _ (by unfold Scl; omega)]; exact h.2.2.2.2.1, by rw [hf.i _ _ (by unfold Scl; omega)]; exact h.2.2.2.2.2⟩
theorem BdW.cl {t t' : St} {T : Nat → Int} {n q : Nat} (h : BdW t T n q) (hf : Fm Scl t t') : BdW t' T n q := ⟨h.1.go hf ⟨by unfold Scl; omega, by unfold Scl; omega, by unfold Scl; omega, fun k => by unfold Scl; omega⟩, h.2.go hf fun a k _ _ => by unfold Scl; omega⟩
/-- a clause as it is noted -/
def ClN (ord : Bool) (A : Nat) (t : St) (k : Nat) (C : CD) (nc : Nat) (c : DC) : Prop := si t A k = iI c.1 ∧ (0 ≤ c.1 ∧ c.1 ≤ 3) ∧ (c.1 = 3 → c.2.1 = none) ∧ (c.2.1 = none → c.1 = 3) ∧ (∀ f, c.2.1 = some f → ∃ a b : Nat, si t A (k + 3) = iI a ∧ si t A (k + 4) = iI b ∧ b ≤ nc ∧ ClS ord C a b f) ∧ ((c.2.2 = none → ∃ a : Nat, si t A (k + 5) = iI a ∧ si t A (k + 6) = iI a ∧ a ≤ 400) ∧ ∀ f, c.2.2 = some f → ∃ a b : Nat, si t A (k + 5) = iI a ∧ si t A (k + 6) = iI b ∧ b ≤ nc ∧ ClT ord C a b f) ∧ cok c
theorem ClN.go {ord : Bool} {A A' : Nat} {t t' : St} {k k' nc nc' : Nat} {C C' : CD} {c : DC} (h : ClN ord A t k C nc c) (g : ∀ j, j < 8 → si t' A' (k' + j) = si t A (k + j)) (hn : nc ≤ nc') (hC : ∀ j, j < nc → C' j = C j) : ClN ord A' t' k' C' nc' c := by
  obtain ⟨h1, h2, h3, h3', h4, ⟨h5, h6⟩, h7⟩ := h
  refine ⟨(g 0 (by omega)).trans h1, h2, h3, h3', fun f e => ?_, ⟨fun e => ?_, fun f e => ?_⟩, h7⟩
  · obtain ⟨a, b, i1, i2, i3, i4⟩ := h4 f e
    exact ⟨a, b, (g 3 (by omega)).trans i1, (g 4 (by omega)).trans i2, by omega, i4.ext fun j _ j2 => hC j (by omega)⟩
  · obtain ⟨a, i1, i2, i3⟩ := h5 e
    exact ⟨a, (g 5 (by omega)).trans i1, (g 6 (by omega)).trans i2, i3⟩
  · obtain ⟨a, b, i1, i2, i3, i4⟩ := h6 f e
    exact ⟨a, b, (g 5 (by omega)).trans i1, (g 6 (by omega)).trans i2, by omega, i4.ext fun j _ j2 => hC j (by omega)⟩
/-! what sums come to is small -/
theorem dok_dTwo {g : Int} {f1 f2 : DS} : dok (dTwo g f1 f2) := fun v _ z e => by
  unfold dTwo opZ at e
  split at e
  · split at e
    · cases e
    · exact (lim_r e).2
  · cases e
theorem loop_dok {op : Nat → Prop} {T : Nat → Int} {n : Nat} {next : Nat → Nat → Nat → PR DS} : ∀ (k : Nat) (f : DS) (d p l : Nat) (g : DS) (p' l' : Nat), dok f → loopS op T n next k f d p l = .inr (g, p', l') → dok g := by
  intro k
  induction k with
  | zero => intro f d p l g p' l' _ e; rw [loopS] at e; cases e
  | succ k ih =>
    intro f d p l g p' l' h e
    rw [loopS] at e
    by_cases a : op p
    · rw [if_pos a] at e
      cases en : next d (nxt T n p) l with
      | inl q => rw [en] at e; cases e
      | inr x =>
        obtain ⟨f2, p2, l2⟩ := x
        rw [en] at e
        exact ih _ _ _ _ _ _ _ dok_dTwo e
    · rw [if_neg a] at e
      cases e
      exact h
theorem chain_dok {op : Nat → Prop} {T : Nat → Int} {n : Nat} {next : Nat → Nat → Nat → PR DS} (hR : ∀ d p l f p' l', next d p l = .inr (f, p', l') → dok f) {d p l : Nat} {g : DS} {p' l' : Nat} (e : chainS op T n next d p l = .inr (g, p', l')) : dok g := by
  unfold chainS at e
  cases en : next d p l with
  | inl q => rw [en] at e; cases e
  | inr x =>
    obtain ⟨f2, p2, l2⟩ := x
    rw [en] at e
    exact loop_dok _ _ _ _ _ _ _ _ (hR _ _ _ _ _ _ en) e
theorem sum_dok {T : Nat → Int} {n : Nat} {V : VP} : ∀ (k d p l : Nat) (f : DS) (p' l' : Nat), sumP T n V k d p l = .inr (f, p', l') → dok f
  | 0, d, p, l, f, p', l', e => by rw [sumP] at e; cases e
  | k + 1, d, p, l, f, p', l', e => by
    rw [sumP] at e
    unfold sumS at e
    refine chain_dok (fun d p l f p' l' e => ?_) e
    unfold termS at e
    refine chain_dok (fun d p l f p' l' e => ?_) e
    unfold partS at e
    by_cases a : tokIs T n p (strB 11)
    · rw [if_pos a] at e
      by_cases b : d = 8
      · rw [if_pos b] at e; cases e
      · rw [if_neg b] at e
        cases en : sumP T n V k (d + 1) (nxt T n p) l with
        | inl q => rw [en] at e; cases e
        | inr x =>
          obtain ⟨f2, p2, l2⟩ := x
          rw [en] at e
          have e : @ite (PR DS) (tokIs T n p2 (strB 12)) (Classical.propDecidable _) (.inr (f2, nxt T n p2, l2)) (.inl p2) = .inr (f, p', l') := e
          by_cases c : tokIs T n p2 (strB 12)
          · rw [if_pos c] at e
            cases e
            exact sum_dok k _ _ _ _ _ _ en
          · rw [if_neg c] at e; cases e
    · rw [if_neg a] at e
      by_cases b : isD T n p
      · rw [if_pos b] at e
        by_cases c : l = 50
        · rw [if_pos c] at e; cases e
        · rw [if_neg c] at e
          by_cases g : numP T n p 0 1000
          · rw [if_pos g] at e
            cases e
            exact dok_num g.2
          · rw [if_neg g] at e; cases e
      · rw [if_neg b] at e
        cases en : V p l with
        | inl q => rw [en] at e; cases e
        | inr x =>
          obtain ⟨o, p2, l2⟩ := x
          rw [en] at e
          cases o with
          | none => cases e
          | some k =>
            cases e
            exact dok_val
/-! the reader of laws -/
def Slw (a j : Nat) : Prop := Sex a j ∨ Scl a j
def LwM (t : St) (T : Nat → Int) (n p : Nat) (C : CD) (nc l : Nat) (cs : List DC) : Prop := RdW false t T n p C nc l ∧ si t 0 22 = iI cs.length ∧ cs.length ≤ 12 ∧ ∀ i c, cs[i]? = some c → ClN false 11 t (8 * i) C nc c
noncomputable def hdF (T : Nat → Int) (n p : Nat) : Nat → Int
  | 0 => -1
  | k + 1 => @ite _ (tokIs T n p (strB (27 + k))) (Classical.propDecidable _) (k : Int) (hdF T n p k)
theorem hdF_4 {T : Nat → Int} {n p : Nat} : hdF T n p 4 = headL T n p := by
  have no : ∀ i j, i < 45 → j < 45 → i ≠ j → tokIs T n p (strB i) → ¬ tokIs T n p (strB j) := fun i j hi hj hne h h' => hne (str_un hi hj h h')
  unfold headL
  show @ite _ (tokIs T n p (strB 30)) (Classical.propDecidable _) (3 : Int) (@ite _ (tokIs T n p (strB 29)) (Classical.propDecidable _) (2 : Int) (@ite _ (tokIs T n p (strB 28)) (Classical.propDecidable _) (1 : Int) (@ite _ (tokIs T n p (strB 27)) (Classical.propDecidable _) (0 : Int) (-1)))) = _
  by_cases a : tokIs T n p (strB 27)
  · rw [if_neg (no 27 30 (by omega) (by omega) (by omega) a), if_neg (no 27 29 (by omega) (by omega) (by omega) a), if_neg (no 27 28 (by omega) (by omega) (by omega) a), if_pos a, if_pos a]
  · by_cases b : tokIs T n p (strB 28)
    · rw [if_neg (no 28 30 (by omega) (by omega) (by omega) b), if_neg (no 28 29 (by omega) (by omega) (by omega) b), if_pos b, if_neg a, if_pos b]
    · by_cases c : tokIs T n p (strB 29)
      · rw [if_neg (no 29 30 (by omega) (by omega) (by omega) c), if_pos c, if_neg a, if_neg b, if_pos c]
      · rw [if_neg c, if_neg b, if_neg a, if_neg a, if_neg b, if_neg c]
theorem hdF_r {T : Nat → Int} {n p : Nat} : ∀ k, -1 ≤ hdF T n p k ∧ hdF T n p k < k
  | 0 => by show (-1 : Int) ≤ -1 ∧ (-1 : Int) < 0; omega
  | k + 1 => by
    have := hdF_r (T := T) (n := n) (p := p) k
    rw [hdF]
    split <;> omega
theorem e_X5_readLaw_4 {t : St} {T : Nat → Int} {n p : Nat} (h : TkE t T n p) (hw : WrdE t) : ∀ (j k : Nat), 4 = j + k → ∀ fu, j < fu → F_X5_readLaw_4 fu t (iI (hdF T n p k)) (iI k) = F_X5_readLaw_4 1 t (iI (headL T n p)) (iI 4) := by
  intro j
  induction j with
  | zero =>
    intro k hk fu hfu
    obtain ⟨g, rfl⟩ : ∃ g, fu = g + 1 := ⟨fu - 1, by omega⟩
    rw [show k = 4 by omega, hdF_4]
    simp only [F_X5_readLaw_4]
    rw [k_4, if_pos (show iI ((4 : Nat) : Int) ≥ iI 4 by decide), if_pos (show iI 4 ≤ iI 4 by decide)]
  | succ j ih =>
    intro k hk fu hfu
    obtain ⟨g, rfl⟩ : ∃ g, fu = g + 1 := ⟨fu - 1, by omega⟩
    rw [← ih (k + 1) (by omega) g (by omega)]
    rw [hdF]
    have e : F_X5_readLaw_4 (g + 1) t (iI (hdF T n p k)) (iI (k : Int)) = if iI (bZ (tokIs T n p (strB (27 + k)))) = 0 then F_X5_readLaw_4 g t (iI (hdF T n p k)) (iI ((k + 1 : Nat) : Int)) else F_X5_readLaw_4 g t (iI (k : Int)) (iI ((k + 1 : Nat) : Int)) := by
      rw [F_X5_readLaw_4]
      show (if (4 : Int32) ≤ iI (k : Int) then _ else _) = _
      rw [k_4, if_neg (by rw [iI_le (by omega) (by omega)]; omega), inb_g (by omega), iI_nat (by omega), Int.toNat_natCast, hw.2.2 k (by omega), e_X5_isWord h (wd_hd k (by omega)) rfl, bnd_s, iI_su]
    rw [e]
    by_cases c : tokIs T n p (strB (27 + k))
    · rw [if_pos c, if_neg (show ¬ iI (bZ (tokIs T n p (strB (27 + k)))) = 0 by rw [bZ_t c]; decide)]
    · rw [if_neg c, if_pos (show iI (bZ (tokIs T n p (strB (27 + k)))) = 0 by rw [bZ_f c]; rfl)]
theorem wd_10 : wdL (strB 10) := by unfold wdL; decide
theorem hs_10 : (294 : Int) = hsL (strB 10) := by decide
theorem i11 {t : St} {c k : Nat} (hc : c + k < 96) {v : Int32} {f : St → Option (Unit × St)} : (gd (inb (iI (c : Int) + iI (k : Int)) 96) <| nam (setI t 11 (iI (c : Int) + iI (k : Int)).toNatClampNeg v) f) = f (setI t 11 (c + k) v) := by
  rw [iI_add, inb_g (by omega), iI_nat (by omega), show ((c : Int) + (k : Int)).toNat = c + k by omega, nam_v]
theorem lw_185 {t : St} {c : Nat} (hc : c + 8 ≤ 96) : F_X5_readLaw_185 t (iI c) = some ((), setI t 11 (c + 6) (si t 0 24)) := by
  unfold F_X5_readLaw_185
  rw [show (6 : Int32) = iI ((6 : Nat) : Int) from rfl]
  exact i11 (by omega)
/-- the end of a clause -/
theorem lw_135 {t : St} {T : Nat → Int} {n p : Nat} {C : CD} {nc l c : Nat} (h : RdW false t T n p C nc l) (hl : l ≤ 50) (hc : c + 8 ≤ 96) (hd : Int) (of : Option DS) : match whenS T n (lawV T n) hd of p l with
    | .inl q => ∃ t', F_X5_readLaw_135 t (iI c) = some ((), t') ∧ BdW t' T n q ∧ Fm Slw t t'
    | .inr (y, p', l') => ∃ t' C' nc', F_X5_readLaw_135 t (iI c) = some ((), t') ∧ RdW false t' T n p' C' nc' l' ∧ Fm (fun a j => Sex a j ∨ (a = 11 ∧ c + 4 ≤ j ∧ j < c + 7)) t t' ∧ (nc ≤ nc' ∧ ∀ k, k < nc → C' k = C k) ∧ (p ≤ p' ∧ p' ≤ n) ∧ l' ≤ 50 ∧ (y.1 = hd ∧ y.2.1 = of) ∧ si t' 11 (c + 4) = iI nc ∧ ((y.2.2 = none → si t' 11 (c + 5) = iI nc ∧ si t' 11 (c + 6) = iI nc) ∧ ∀ f, y.2.2 = some f → si t' 11 (c + 5) = iI nc ∧ si t' 11 (c + 6) = iI nc' ∧ ClT false C' nc nc' f) := by
  have hpn := h.p
  have hnx := nxt_r (T := T) hpn.1
  have n24 : si t 0 24 = iI nc := h.2.1.1
  have f1 : Fm (fun a j => a = 11 ∧ c + 4 ≤ j ∧ j < c + 6) t (setI (setI t 11 (c + 4) (iI nc)) 11 (c + 5) (iI nc)) := (Fm.set (by omega)).tr (Fm.set (by omega))
  have r1 := h.cl (f1.le fun a j z => by unfold Scl; omega)
  have g4 : si (setI (setI t 11 (c + 4) (iI nc)) 11 (c + 5) (iI nc)) 11 (c + 4) = iI nc := by rw [si_set, if_pos rfl, if_neg (by omega), si_set, if_pos rfl, if_pos rfl]
  have g5 : si (setI (setI t 11 (c + 4) (iI nc)) 11 (c + 5) (iI nc)) 11 (c + 5) = iI nc := by rw [si_set, if_pos rfl, if_pos rfl]
  have pre : F_X5_readLaw_135 t (iI c) = bnd (F_X5_isWord (setI (setI t 11 (c + 4) (iI nc)) 11 (c + 5) (iI nc)) (294 : Int64)) fun r8 s9 => if r8 = 0 then (F_X5_readLaw_185 s9 (iI c)) else (bnd (F_X5_next s9) fun _ s13 => bnd (F_X5_readExpression s13 (1 : Int32)) fun _ s16 => F_X5_readLaw_185 s16 (iI c)) := by
    unfold F_X5_readLaw_135
    rw [n24, show (4 : Int32) = iI ((4 : Nat) : Int) from rfl, i11 (by omega), show si (setI t 11 (c + 4) (iI nc)) 0 24 = iI nc from n24, show (5 : Int32) = iI ((5 : Nat) : Int) from rfl, i11 (by omega), if_pos (show si (setI (setI t 11 (c + 4) (iI nc)) 11 (c + 5) (iI nc)) 0 20 = 0 from r1.1.2.1)]
  rw [pre]
  generalize setI (setI t 11 (c + 4) (iI nc)) 11 (c + 5) (iI nc) = t1 at f1 r1 g4 g5 ⊢
  unfold whenS
  rw [K_294, e_X5_isWord r1.1.1 wd_10 hs_10, bnd_s]
  have fs : ∀ {t a : St}, Fm Sex t a → Fm (fun a j => Sex a j ∨ (a = 11 ∧ c + 4 ≤ j ∧ j < c + 7)) t a := fun f => f.le fun _ _ => Or.inl
  have f1' : Fm (fun a j => Sex a j ∨ (a = 11 ∧ c + 4 ≤ j ∧ j < c + 7)) t t1 := f1.le fun a j z => Or.inr (by omega)
  have toS : ∀ {t a : St}, Fm (fun a j => Sex a j ∨ (a = 11 ∧ c + 4 ≤ j ∧ j < c + 7)) t a → Fm Slw t a := fun f => f.le fun a j z => z.elim Or.inl fun y => Or.inr (by unfold Scl; omega)
  by_cases a : tokIs T n p (strB 10)
  · have hlt := tok_lt hpn.1 wd_10.1.1 a
    have hn' := hnx.2.2 hlt
    obtain ⟨t2, e2, g2, f2⟩ := g_next r1.1
    have r2 := r1.nx g2 (f2.le fun _ _ => Or.inl) hnx.1
    have h3 := e_exprT r2 hl
    rw [if_pos a, if_neg (show ¬ iI (bZ (tokIs T n p (strB 10))) = 0 by rw [bZ_t a]; decide), e2, bnd_s]
    have h3 : ExT false t2 T n (nxt T n p) C nc (F_X5_readExpression t2 (iI 1)) (testP T n (lawV T n) 12 0 (nxt T n p) l) := h3
    generalize testP T n (lawV T n) 12 0 (nxt T n p) l = R at h3 ⊢
    rcases R with q | ⟨f, p', l'⟩
    · obtain ⟨t3, e3, b3, f3⟩ := h3
      have f4 : Fm (fun a j => a = 11 ∧ c + 4 ≤ j ∧ j < c + 7) t3 (setI t3 11 (c + 6) (si t3 0 24)) := Fm.set (by omega)
      show ∃ t', (bnd (F_X5_readExpression t2 (1 : Int32)) fun _ s16 => F_X5_readLaw_185 s16 (iI c)) = some ((), t') ∧ BdW t' T n q ∧ Fm Slw t t'
      rw [show F_X5_readExpression t2 (1 : Int32) = some ((), t3) from e3, bnd_s, lw_185 hc]
      exact ⟨_, rfl, b3.cl (f4.le fun a j z => by unfold Scl; omega), toS (((f1'.tr (fs (f2.le fun _ _ z => Or.inl (Or.inl z)))).tr (fs f3)).tr (f4.le fun _ _ => Or.inr))⟩
    · obtain ⟨t3, C3, nc3, e3, r3, f3, hC, hcl, hp, hl3⟩ := h3
      have f4 : Fm (fun a j => a = 11 ∧ c + 4 ≤ j ∧ j < c + 7) t3 (setI t3 11 (c + 6) (iI nc3)) := Fm.set (by omega)
      have f4' : Fm (fun a j => a = 11 ∧ j = c + 6) t3 (setI t3 11 (c + 6) (iI nc3)) := Fm.set ⟨rfl, rfl⟩
      have n3 : si t3 0 24 = iI nc3 := r3.2.1.1
      have k5 : ∀ j, si t3 11 j = si t1 11 j := fun j => by rw [f3.i _ _ (by unfold Sex Smu Stk Spc; omega), f2.i _ _ (by unfold Stk; omega)]
      show ∃ t' C' nc', (bnd (F_X5_readExpression t2 (1 : Int32)) fun _ s16 => F_X5_readLaw_185 s16 (iI c)) = some ((), t') ∧ _
      rw [show F_X5_readExpression t2 (1 : Int32) = some ((), t3) from e3, bnd_s, lw_185 hc, n3]
      refine ⟨_, C3, nc3, rfl, r3.cl (f4.le fun a j z => by unfold Scl; omega), ((f1'.tr (fs (f2.le fun _ _ z => Or.inl (Or.inl z)))).tr (fs f3)).tr (f4.le fun _ _ => Or.inr), ⟨by have := hcl.lt; omega, hC⟩, by omega, hl3, ⟨rfl, rfl⟩, ?_, fun z => (by cases z), fun g z => ?_⟩
      · rw [f4'.i _ _ (by omega), k5]; exact g4
      · have z : some f = some g := z
        cases z
        refine ⟨by rw [f4'.i _ _ (by omega), k5]; exact g5, by rw [si_set, if_pos rfl, if_pos rfl], hcl⟩
  · have f4 : Fm (fun a j => a = 11 ∧ c + 4 ≤ j ∧ j < c + 7) t1 (setI t1 11 (c + 6) (iI nc)) := Fm.set (by omega)
    have f4' : Fm (fun a j => a = 11 ∧ j = c + 6) t1 (setI t1 11 (c + 6) (iI nc)) := Fm.set ⟨rfl, rfl⟩
    have n1 : si t1 0 24 = iI nc := r1.2.1.1
    rw [if_neg a, if_pos (show iI (bZ (tokIs T n p (strB 10))) = 0 by rw [bZ_f a]; rfl)]
    show ∃ t' C' nc', F_X5_readLaw_185 t1 (iI c) = some ((), t') ∧ _
    rw [lw_185 hc, n1]
    refine ⟨_, C, nc, rfl, r1.cl (f4.le fun a j z => by unfold Scl; omega), f1'.tr (f4.le fun _ _ => Or.inr), ⟨Nat.le_refl _, fun _ _ => rfl⟩, by omega, hl, ⟨rfl, rfl⟩, ?_, fun _ => ⟨?_, ?_⟩, fun g z => by cases z⟩
    · rw [f4'.i _ _ (by omega)]; exact g4
    · rw [f4'.i _ _ (by omega)]; exact g5
    · rw [si_set, if_pos rfl, if_pos rfl]
