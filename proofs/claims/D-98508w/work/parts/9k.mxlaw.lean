set_option maxRecDepth 100000
/-! ===== the model: law ===== -/
theorem pat_0 {T : Nat → Int} {n p : Nat} (hp : p ≤ n) : sortZ T n p = 0 ↔ p = n := by
  unfold sortZ
  constructor
  · intro h
    split at h
    · omega
    · split at h
      · omega
      · split at h <;> omega
  · intro h
    rw [if_neg (fun z => by have := z.1; omega), if_neg (fun z => by have := z.1; omega), if_neg (by omega)]
/-- a text is begun -/
theorem e_X5_beginText {t : St} {T : Nat → Int} {n : Nat} {ord : Bool} (hB : TkB t T n) (hw : WrdE t) {C : CD} : ∃ t', F_X5_beginText t (iI (ordI ord)) = some ((), t') ∧ RdW ord t' T n (skp T n 0) C 0 0 ∧ si t' 0 22 = iI 0 ∧ Fm (fun a j => Slw a j ∨ (a = 0 ∧ j = 21)) t t' := by
  have f1 : Fm (fun a j => a = 0 ∧ (j = 16 ∨ j = 19 ∨ j = 20 ∨ j = 21)) t (setI (setI (setI (setI t 0 21 (iI (ordI ord))) 0 16 (iI 0)) 0 20 (iI 0)) 0 19 (iI (-1))) := (((Fm.set (by omega)).tr (Fm.set (by omega))).tr (Fm.set (by omega))).tr (Fm.set (by omega))
  have g21 : si (setI (setI (setI (setI t 0 21 (iI (ordI ord))) 0 16 (iI 0)) 0 20 (iI 0)) 0 19 (iI (-1))) 0 21 = iI (ordI ord) := rfl
  have g16 : si (setI (setI (setI (setI t 0 21 (iI (ordI ord))) 0 16 (iI 0)) 0 20 (iI 0)) 0 19 (iI (-1))) 0 16 = iI ((0 : Nat) : Int) := rfl
  have g20 : si (setI (setI (setI (setI t 0 21 (iI (ordI ord))) 0 16 (iI 0)) 0 20 (iI 0)) 0 19 (iI (-1))) 0 20 = iI 0 := rfl
  have g19 : si (setI (setI (setI (setI t 0 21 (iI (ordI ord))) 0 16 (iI 0)) 0 20 (iI 0)) 0 19 (iI (-1))) 0 19 = iI (-1) := rfl
  have hf : fits .boolean (.int (iI (ordI ord))) = true := by cases ord <;> rfl
  unfold F_X5_beginText F_X5_begin
  rw [gd_ok hf, nam_v, k_m1, k_0, nam_v, nam_v, nam_v]
  generalize setI (setI (setI (setI t 0 21 (iI (ordI ord))) 0 16 (iI 0)) 0 20 (iI 0)) 0 19 (iI (-1)) = t1 at f1 g21 g16 g20 g19 ⊢
  obtain ⟨t2, e2, h2, f2⟩ := e_X5_next0 (hB.go f1 ⟨by omega, fun k => by omega⟩) (Nat.zero_le n) g16
  have f3 : Fm (fun a j => a = 0 ∧ (j = 22 ∨ j = 24 ∨ j = 27)) t2 (setI (setI (setI t2 0 22 (iI 0)) 0 24 (iI 0)) 0 27 (iI 0)) := ((Fm.set (by omega)).tr (Fm.set (by omega))).tr (Fm.set (by omega))
  rw [e2, bnd_s, bnd_s, nam_v, nam_v, nam_v]
  have S1 : ∀ a j, (a = 0 ∧ (j = 16 ∨ j = 19 ∨ j = 20 ∨ j = 21)) → Slw a j ∨ (a = 0 ∧ j = 21) := fun a j z => by unfold Slw Sex Smu Stk; omega
  have S3 : ∀ a j, (a = 0 ∧ (j = 22 ∨ j = 24 ∨ j = 27)) → Slw a j ∨ (a = 0 ∧ j = 21) := fun a j z => by unfold Slw Sex Spc Scl; omega
  have w2 : WrdE t2 := (hw.go f1 fun a k _ _ => by omega).go f2 fun a k _ _ => by unfold Stk; omega
  refine ⟨_, rfl, ⟨⟨h2.go f3 ⟨fun j _ _ => by omega, fun k => by omega, by omega⟩, by rw [f3.i _ _ (by omega), f2.i _ _ (by unfold Stk; omega)]; exact g20, by rw [f3.i _ _ (by omega), f2.i _ _ (by unfold Stk; omega)]; exact g19⟩, ⟨rfl, fun k hk => by omega⟩, w2.go f3 fun a k _ _ => by omega, Nat.zero_le _, rfl, by rw [f3.i _ _ (by omega), f2.i _ _ (by unfold Stk; omega)]; exact g21⟩, rfl, ((f1.le S1).tr (f2.le fun _ _ z => Or.inl (Or.inl (Or.inl (Or.inl z))))).tr (f3.le S3)⟩
/-- and ended -/
def Sen (a j : Nat) : Prop := a = 0 ∧ (j = 14 ∨ j = 19 ∨ j = 20 ∨ j = 21)
theorem e_X5_endText_g {t : St} {T : Nat → Int} {n p : Nat} {C : CD} {nc l : Nat} {ord : Bool} (h : RdW ord t T n p C nc l) : ∃ t', F_X5_endText t = some ((), t') ∧ Fm Sen t t' ∧ si t' 0 21 = iI 0 ∧ si t' 0 14 = iI 0 ∧ ((p = n ∧ si t' 0 20 = iI 0 ∧ si t' 0 19 = iI (-1)) ∨ (p < n ∧ si t' 0 20 = iI 1 ∧ si t' 0 19 = iI p)) := by
  have hpn := h.p
  have hs := sortZ_r (T := T) (n := n) (p := p)
  have h17 := h.1.1.2.2.2.2.1
  have f19 : ∀ t : St, F_X5_endText_19 t = some ((), setI (setI t 0 21 (iI 0)) 0 14 (iI 0)) := fun t => rfl
  have fe : ∀ t : St, Fm Sen t (setI (setI t 0 21 (iI 0)) 0 14 (iI 0)) := fun t => (Fm.set (by unfold Sen; omega)).tr (Fm.set (by unfold Sen; omega))
  unfold F_X5_endText
  rw [if_pos (show si t 0 20 = 0 from h.1.2.1), h17]
  by_cases a : p = n
  · rw [if_pos (show iI (sortZ T n p) = 0 by rw [(pat_0 hpn.1).mpr a]; rfl), f19]
    exact ⟨_, rfl, fe t, rfl, rfl, Or.inl ⟨a, h.1.2.1, h.1.2.2⟩⟩
  · obtain ⟨t1, e1, g1, f1⟩ := e_must_0 h.1
    rw [if_neg (show ¬ iI (sortZ T n p) = 0 by rw [k_0, iI_eq (by omega) (by omega), pat_0 hpn.1]; exact a), show F_X5_must t (0 : Int32) = some ((), t1) from e1, bnd_s, f19]
    exact ⟨_, rfl, (f1.le fun a j z => by unfold Sen; omega).tr (fe t1), rfl, rfl, Or.inr ⟨by omega, g1.2.1, g1.2.2.1⟩⟩
theorem e_X5_endText_b {t : St} {T : Nat → Int} {n q : Nat} (h : BdW t T n q) : ∃ t', F_X5_endText t = some ((), t') ∧ Fm Sen t t' ∧ si t' 0 21 = iI 0 ∧ si t' 0 14 = iI 0 ∧ si t' 0 20 = iI 1 ∧ si t' 0 19 = iI q := by
  unfold F_X5_endText
  rw [if_neg (show ¬ si t 0 20 = (0 : Int32) by rw [h.1.2.1]; decide)]
  exact ⟨setI (setI t 0 21 (iI 0)) 0 14 (iI 0), rfl, (Fm.set (by unfold Sen; omega)).tr (Fm.set (by unfold Sen; omega)), rfl, rfl, h.1.2.1, h.1.2.2.1⟩
/-- what is done behind a law's text -/
noncomputable def lwK (s2 : St) : Option (Int32 × St) := if (si s2 0 20) = 0 then (gd (inb (2 : Int32) 5460) <| nam ((60 : Int32) + ((900 : Int32) * (si s2 2 (2 : Int32).toNatClampNeg))) fun y6 => gd (inb (y6 + (1 : Int32)) 5460) <| nam (setI s2 2 (y6 + (1 : Int32)).toNatClampNeg (si s2 0 22)) fun s9 => F_X5_law_110 FU s9 y6 (0 : Int32)) else (bnd (F_X5_tell s2 (-6 : Int32)) fun r11 s12 => some (r11, s12))
def Stx (a j : Nat) : Prop := Slw a j ∨ Sen a j
/-- a law's text, read to its end -/
def TxL (t : St) (x : Option (Int32 × St)) : Nat ⊕ List DC → Prop
  | .inl q => ∃ t1, x = lwK t1 ∧ (si t1 0 20 = iI 1 ∧ si t1 0 19 = iI q ∧ si t1 0 21 = iI 0 ∧ si t1 0 14 = iI 0) ∧ Fm Stx t t1
  | .inr cs => ∃ t1 C nc, x = lwK t1 ∧ (si t1 0 20 = iI 0 ∧ si t1 0 19 = iI (-1) ∧ si t1 0 21 = iI 0 ∧ si t1 0 14 = iI 0) ∧ Fm Stx t t1 ∧ (si t1 0 22 = iI cs.length ∧ cs.length ≤ 12) ∧ (∀ i c, cs[i]? = some c → ClN false 11 t1 (8 * i) C nc c) ∧ CodR t1 C nc ∧ nc ≤ 400
theorem TxL.after {t t1 : St} {x : Option (Int32 × St)} {r : Nat ⊕ List DC} (h : TxL t1 x r) (f : Fm Stx t t1) : TxL t x r := by
  rcases r with q | cs
  · obtain ⟨t2, e, a, f2⟩ := h
    exact ⟨t2, e, a, f.tr f2⟩
  · obtain ⟨t2, C, nc, e, a, f2, b⟩ := h
    exact ⟨t2, C, nc, e, a, f.tr f2, b⟩
theorem tx_bad {t : St} {T : Nat → Int} {n q : Nat} (h : BdW t T n q) {fu : Nat} (hfu : 0 < fu) : TxL t (F_X5_law_37 fu t) (.inl q) := by
  obtain ⟨g, rfl⟩ : ∃ g, fu = g + 1 := ⟨fu - 1, by omega⟩
  obtain ⟨t1, e, f, a⟩ := e_X5_endText_b h
  refine ⟨t1, ?_, ⟨a.2.2.1, a.2.2.2, a.1, a.2.1⟩, f.le fun _ _ => Or.inr⟩
  simp only [F_X5_law_37]
  rw [if_neg (show ¬ si t 0 20 = (0 : Int32) by rw [h.1.2.1]; decide)]
  unfold F_X5_law_64
  rw [e, bnd_s]
  rfl
theorem e_X5_law_37 {T : Nat → Int} {n : Nat} : ∀ (k p l : Nat) (cs : List DC) (t : St) (C : CD) (nc : Nat), n - p < k → LwM t T n p C nc l cs → l ≤ 50 → ∀ fu, k < fu → TxL t (F_X5_law_37 fu t) (readL T n (lawC T n (lawV T n)) k cs p l) := by
  intro k
  induction k with
  | zero => intro p l cs t C nc hk; omega
  | succ k ih =>
    intro p l cs t C nc hk h hl fu hfu
    obtain ⟨g, rfl⟩ : ∃ g, fu = g + 1 := ⟨fu - 1, by omega⟩
    obtain ⟨hR, h22, h12, hcl⟩ := h
    have h : LwM t T n p C nc l cs := ⟨hR, h22, h12, hcl⟩
    have hpn := hR.p
    have hnx := nxt_r (T := T) hpn.1
    have e0 : F_X5_law_37 (g + 1) t = if iI (bZ (tokIs T n p (strB 26))) = 0 then F_X5_law_64 t else bnd (F_X5_next t) fun _ s7 => bnd (F_X5_readLaw s7) fun _ s10 => F_X5_law_37 g s10 := by
      rw [F_X5_law_37]
      show (if si t 0 20 = 0 then _ else _) = _
      rw [if_pos (show si t 0 20 = 0 from hR.1.2.1), show (59 : Int32) = iI 59 from rfl, e_X5_isSign hR.1.1 (by unfold sgC; omega), bnd_s]
      rfl
    rw [e0, readL]
    by_cases a : tokIs T n p (strB 26)
    · have hlt := tok_lt hpn.1 (by show 1 ≤ 1; omega) a
      have hn' := hnx.2.2 hlt
      obtain ⟨t1, e1, g1, f1⟩ := g_next hR.1
      have f1s : Fm Slw t t1 := f1.le fun _ _ z => Or.inl (Or.inl (Or.inl z))
      have h1 : LwM t1 T n (nxt T n p) C nc l cs := ⟨hR.nx g1 (f1.le fun _ _ => Or.inl) hnx.1, by rw [f1.i _ _ (by unfold Stk; omega)]; exact h22, h12, fun i c e => (hcl i c e).go (fun j _ => f1.i _ _ (by unfold Stk; omega)) (Nat.le_refl _) fun _ _ => rfl⟩
      have h2 := e_X5_readLaw h1 hl
      rw [if_pos a, if_neg (show ¬ iI (bZ (tokIs T n p (strB 26))) = 0 by rw [bZ_t a]; decide), e1, bnd_s]
      generalize lawC T n (lawV T n) cs.length (nxt T n p) l = R at h2 ⊢
      rcases R with q | ⟨c, p', l'⟩
      · obtain ⟨t2, e2, b2, f2⟩ := h2
        rw [e2, bnd_s]
        exact (tx_bad b2 (by omega)).after ((f1s.tr f2).le fun _ _ => Or.inl)
      · obtain ⟨t2, C2, nc2, e2, r2, f2, hp2, hl2⟩ := h2
        rw [e2, bnd_s]
        exact (ih p' l' (cs ++ [c]) t2 C2 nc2 (by omega) r2 hl2 g (by omega)).after ((f1s.tr f2).le fun _ _ => Or.inl)
    · rw [if_neg a, if_pos (show iI (bZ (tokIs T n p (strB 26))) = 0 by rw [bZ_f a]; rfl)]
      obtain ⟨t1, e1, f1, g21, g14, hh⟩ := e_X5_endText_g hR
      have e2 : F_X5_law_64 t = lwK t1 := by
        unfold F_X5_law_64
        rw [e1, bnd_s]
        rfl
      rw [e2]
      rcases hh with ⟨hp, g20, g19⟩ | ⟨hp, g20, g19⟩
      · rw [if_neg (by omega)]
        exact ⟨t1, C, nc, rfl, ⟨g20, g19, g21, g14⟩, f1.le fun _ _ => Or.inr, ⟨by rw [f1.i _ _ (by unfold Sen; omega)]; exact h22, h12⟩, fun i c e => (hcl i c e).go (fun j _ => f1.i _ _ (by unfold Sen; omega)) (Nat.le_refl _) fun _ _ => rfl, hR.2.1.go f1 ⟨by unfold Sen; omega, fun k => by unfold Sen; omega⟩, by have := hR.2.2.2.1; omega⟩
      · rw [if_pos hp]
        exact ⟨t1, rfl, ⟨g20, g19, g21, g14⟩, f1.le fun _ _ => Or.inr⟩
/-- from its first token on -/
theorem e_lawText {t : St} {T : Nat → Int} {n : Nat} (hB : TkB t T n) (hw : WrdE t) : TxL t (bnd (F_X5_beginText t (0 : Int32)) fun _ s6 => bnd (F_X5_readLaw s6) fun _ s9 => F_X5_law_37 FU s9) (readP T n (lawC T n (lawV T n))) := by
  obtain ⟨t1, e1, r1, g22, f1⟩ := e_X5_beginText (ord := false) hB hw (C := fun _ => (0, 0))
  have f1' : Fm Stx t t1 := f1.le fun a j z => z.elim Or.inl fun y => Or.inr (by unfold Sen; omega)
  have h1 : LwM t1 T n (skp T n 0) (fun _ => (0, 0)) 0 0 [] := ⟨r1, g22, by show 0 ≤ 12; omega, fun i c e => by rw [List.getElem?_nil] at e; cases e⟩
  have h2 := e_X5_readLaw h1 (by omega)
  have hpn := r1.p
  unfold readP
  rw [show F_X5_beginText t (0 : Int32) = some ((), t1) from e1, bnd_s]
  have h2 : LwO t1 T n (skp T n 0) [] (F_X5_readLaw t1) (lawC T n (lawV T n) 0 (skp T n 0) 0) := h2
  generalize lawC T n (lawV T n) 0 (skp T n 0) 0 = R at h2 ⊢
  rcases R with q | ⟨c, p', l'⟩
  · obtain ⟨t2, e2, b2, f2⟩ := h2
    rw [e2, bnd_s]
    exact (tx_bad b2 (FU_ge (by omega))).after (f1'.tr (f2.le fun _ _ => Or.inl))
  · obtain ⟨t2, C2, nc2, e2, r2, f2, hp2, hl2⟩ := h2
    rw [e2, bnd_s]
    exact (e_X5_law_37 401 p' l' [c] t2 C2 nc2 (by omega) r2 hl2 FU (FU_ge (by omega))).after (f1'.tr (f2.le fun _ _ => Or.inl))
/-! the registers behind a text -/
theorem Stx_in {a j : Nat} (h : Stx a j) (hi : inM a j) : a = 0 ∧ (j = 14 ∨ j = 19) := by
  unfold Stx Slw Sex Smu Stk Spc Scl Sen at h
  unfold inM at hi
  omega
theorem M0.txt {t t1 : St} {w : WR} {ls : List (List DC)} (h : M0 t w ls) (hf : Fm Stx t t1) {v : Int} (h19 : si t1 0 19 = iI v) (h21 : si t1 0 21 = iI 0) (h14 : si t1 0 14 = iI 0) : M0 t1 (wup (wup w 0 11 0) 0 12 v) ls := by
  obtain ⟨q1, q2, q3, q4⟩ := h
  have g2 : ∀ j, si t1 2 j = si t 2 j := fun j => hf.i _ _ (by unfold Stx Slw Sex Smu Stk Spc Scl Sen; omega)
  refine ⟨fun r k h0 hr => ?_, by rw [g2]; exact q2, h21, fun i law e => (q4 i law e).go fun j _ _ => g2 j⟩
  by_cases c1 : r = 0 ∧ k = 12
  · rw [c1.1, c1.2, wup_s]
    exact h19
  · rw [wup_k2 c1]
    by_cases c2 : r = 0 ∧ k = 11
    · rw [c2.1, c2.2, wup_s]
      exact h14
    · rw [wup_k2 c2, hf.i, q1 r k h0 hr]
      intro z
      obtain ⟨z1, z2⟩ := Stx_in z (relM_in hr h0)
      rcases z2 with z2 | z2
      · exact c2 (loc_inj hr h0 (show relM 0 11 from Or.inr (Or.inl ⟨by omega, by omega⟩)) (by omega) z1 z2)
      · exact c1 (loc_inj hr h0 (show relM 0 12 from Or.inr (Or.inl ⟨by omega, by omega⟩)) (by omega) z1 z2)
def Rdg (a j : Nat) : Prop := (a = 0 ∧ ((15 ≤ j ∧ j ≤ 17) ∨ (20 ≤ j ∧ j ≤ 31))) ∨ (11 ≤ a ∧ a ≤ 15) ∨ a = 27
def Sln (a j : Nat) : Prop := Reg a j ∨ Rdg a j ∨ a = 2
theorem Stx_ln {a j : Nat} (h : Stx a j) : Sln a j := by
  have scr : Scr a j → Sln a j := fun z => Or.inl (Or.inr z)
  have inm : inM a j → Sln a j := fun z => Or.inl (Or.inl z)
  have rdg : Rdg a j → Sln a j := fun z => Or.inr (Or.inl z)
  rcases h with (((h | h) | h) | h) | h
  · rcases h with h | h
    · exact rdg (by unfold Rdg; omega)
    · exact scr (by unfold Scr; omega)
  · obtain ⟨rfl, rfl | rfl⟩ := h
    · exact inm (by unfold inM; omega)
    · exact rdg (by unfold Rdg; omega)
  · exact rdg (by unfold Spc at h; unfold Rdg; omega)
  · exact rdg (by unfold Scl at h; unfold Rdg; omega)
  · obtain ⟨rfl, rfl | rfl | rfl | rfl⟩ := h
    · exact inm (by unfold inM; omega)
    · exact inm (by unfold inM; omega)
    · exact rdg (by unfold Rdg; omega)
    · exact rdg (by unfold Rdg; omega)
/-! the text is kept -/
theorem ClN.m {t : St} {k nc : Nat} {C : CD} {c : DC} (h : ClN false 2 t k C nc c) : ClM t k C nc c := by
  obtain ⟨h1, h2, h3, h3', h4, ⟨h5, h6⟩, h7⟩ := h
  refine ⟨h1, h2, h3, h3', fun f e => ?_, ⟨h5, fun f e => ?_⟩, h7⟩
  · obtain ⟨a, b, i1, i2, i3, i4⟩ := h4 f e
    exact ⟨a, b, i1, i2, i3, i4 C fun _ _ _ => rfl⟩
  · obtain ⟨a, b, i1, i2, i3, i4⟩ := h6 f e
    exact ⟨a, b, i1, i2, i3, i4 C fun _ _ _ => rfl⟩
theorem e_X5_law_145 {L nc : Nat} (hL : L ≤ 4560) (hn : nc ≤ 400) : ∀ (n k : Nat) (t : St), nc = n + k → si t 0 24 = iI nc → (∀ j, j < k → si t 2 (L + 98 + 2 * j) = si t 12 j ∧ si t 2 (L + 98 + 2 * j + 1) = si t 13 j) → ∀ fu, n < fu → ∃ t', F_X5_law_145 fu t (iI L) (iI k) = (nam (setI t' 2 2 ((si t' 2 2) + (1 : Int32))) fun s4 => bnd (F_X5_tell s4 ((si s4 2 2) - (1 : Int32))) fun r7 s8 => some (r7, s8)) ∧ Fm (fun a j => a = 2 ∧ L + 98 ≤ j ∧ j < L + 900) t t' ∧ ∀ j, j < nc → si t' 2 (L + 98 + 2 * j) = si t 12 j ∧ si t' 2 (L + 98 + 2 * j + 1) = si t 13 j := by
  intro n
  induction n with
  | zero =>
    intro k t hk h24 hc fu hfu
    obtain ⟨g, rfl⟩ : ∃ g, fu = g + 1 := ⟨fu - 1, by omega⟩
    refine ⟨t, ?_, Fm.rf, fun j hj => hc j (by omega)⟩
    simp only [F_X5_law_145]
    rw [h24, if_pos (by rw [iI_le (by omega) (by omega)]; omega)]
    rfl
  | succ n ih =>
    intro k t hk h24 hc fu hfu
    obtain ⟨g, rfl⟩ : ∃ g, fu = g + 1 := ⟨fu - 1, by omega⟩
    have f : Fm (fun a j => a = 2 ∧ (j = L + 98 + 2 * k ∨ j = L + 98 + 2 * k + 1)) t (setI (setI t 2 (L + 98 + 2 * k) (si t 12 k)) 2 (L + 98 + 2 * k + 1) (si t 13 k)) := (Fm.set (by omega)).tr (Fm.set (by omega))
    have a1 : si (setI (setI t 2 (L + 98 + 2 * k) (si t 12 k)) 2 (L + 98 + 2 * k + 1) (si t 13 k)) 2 (L + 98 + 2 * k) = si t 12 k := by rw [si_set, if_pos rfl, if_neg (by omega), si_set, if_pos rfl, if_pos rfl]
    have a2 : si (setI (setI t 2 (L + 98 + 2 * k) (si t 12 k)) 2 (L + 98 + 2 * k + 1) (si t 13 k)) 2 (L + 98 + 2 * k + 1) = si t 13 k := by rw [si_set, if_pos rfl, if_pos rfl]
    obtain ⟨t', e, f', h'⟩ := ih (k + 1) _ (by omega) (by rw [f.i _ _ (by omega)]; exact h24) (fun j hj => by
      rw [f.i 12 j (by omega), f.i 13 j (by omega)]
      by_cases ej : j = k
      · rw [ej]
        exact ⟨a1, a2⟩
      · rw [f.i _ _ (by omega), f.i _ _ (by omega)]
        exact hc j (by omega)) g (by omega)
    refine ⟨t', ?_, (f.le fun a j z => by omega).tr f', fun j hj => by rw [(h' j hj).1, (h' j hj).2]; exact ⟨f.i _ _ (by omega), f.i _ _ (by omega)⟩⟩
    simp only [F_X5_law_145]
    rw [h24, if_neg (by rw [iI_le (by omega) (by omega)]; omega), inb_g (by omega), k_98, k_2, iI_add, iI_mul, iI_add, inb_g (by omega), iI_nat (by omega), iI_nat (by omega), show ((L : Int) + 98 + 2 * (k : Int)).toNat = L + 98 + 2 * k by omega, Int.toNat_natCast, nam_v, inb_g (by omega), k_1, iI_add, inb_g (by omega), iI_nat (by omega), show ((L : Int) + 98 + 2 * (k : Int) + 1).toNat = L + 98 + 2 * k + 1 by omega, show si (setI t 2 (L + 98 + 2 * k) (si t 12 k)) 13 k = si t 13 k by rw [si_set, if_neg (by omega)], nam_v, show iI (k : Int) + iI 1 = iI ((k + 1 : Nat) : Int) from iI_su]
    exact e
theorem e_X5_law_110 {L m : Nat} (hL : L ≤ 4560) (hm : m ≤ 12) : ∀ (n k : Nat) (t : St), 8 * m = n + k → si t 0 22 = iI m → (∀ j, j < k → si t 2 (L + 2 + j) = si t 11 j) → ∀ fu, n < fu → ∃ t', F_X5_law_110 fu t (iI L) (iI k) = F_X5_law_145 FU t' (iI L) (iI 0) ∧ Fm (fun a j => a = 2 ∧ L + 2 ≤ j ∧ j < L + 98) t t' ∧ ∀ j, j < 8 * m → si t' 2 (L + 2 + j) = si t 11 j := by
  intro n
  induction n with
  | zero =>
    intro k t hk h22 hc fu hfu
    obtain ⟨g, rfl⟩ : ∃ g, fu = g + 1 := ⟨fu - 1, by omega⟩
    refine ⟨t, ?_, Fm.rf, fun j hj => hc j (by omega)⟩
    simp only [F_X5_law_110]
    rw [h22, k_8, iI_mul, if_pos (by rw [iI_le (by omega) (by omega)]; omega), k_0]
  | succ n ih =>
    intro k t hk h22 hc fu hfu
    obtain ⟨g, rfl⟩ : ∃ g, fu = g + 1 := ⟨fu - 1, by omega⟩
    have f : Fm (fun a j => a = 2 ∧ j = L + 2 + k) t (setI t 2 (L + 2 + k) (si t 11 k)) := Fm.set ⟨rfl, rfl⟩
    obtain ⟨t', e, f', h'⟩ := ih (k + 1) _ (by omega) (by rw [f.i _ _ (by omega)]; exact h22) (fun j hj => by
      rw [f.i 11 j (by omega)]
      by_cases ej : j = k
      · rw [ej, si_set, if_pos rfl, if_pos rfl]
      · rw [f.i _ _ (by omega)]
        exact hc j (by omega)) g (by omega)
    refine ⟨t', ?_, (f.le fun a j z => by omega).tr f', fun j hj => by rw [h' j hj]; exact f.i _ _ (by omega)⟩
    simp only [F_X5_law_110]
    rw [h22, k_8, iI_mul, if_neg (by rw [iI_le (by omega) (by omega)]; omega), inb_g (by omega), k_2, iI_add, iI_add, inb_g (by omega), iI_nat (by omega), iI_nat (by omega), show ((L : Int) + 2 + (k : Int)).toNat = L + 2 + k by omega, Int.toNat_natCast, nam_v, iI_su]
    exact e
theorem e_lwK {t : St} {w : WR} {ls : List (List DC)} (hM : M0 t w ls) (hl : ls.length < 6) {cs : List DC} (h20 : si t 0 20 = iI 0) (h22 : si t 0 22 = iI cs.length) (h12 : cs.length ≤ 12) {C : CD} {nc : Nat} (hcl : ∀ i c, cs[i]? = some c → ClN false 11 t (8 * i) C nc c) (hC : CodR t C nc) (hnc : nc ≤ 400) : ∃ t', lwK t = some (iI ls.length, t') ∧ M0 t' (wup w 0 0 0) (ls ++ [cs]) ∧ Fm Sln t t' := by
  obtain ⟨q1, q2, q3, q4⟩ := hM
  have f1 : Fm (fun a j => a = 2 ∧ j = 60 + 900 * ls.length + 1) t (setI t 2 (60 + 900 * ls.length + 1) (iI cs.length)) := Fm.set ⟨rfl, rfl⟩
  obtain ⟨t2, e2, f2, c2⟩ := e_X5_law_110 (L := 60 + 900 * ls.length) (m := cs.length) (by omega) h12 (8 * cs.length) 0 (setI t 2 (60 + 900 * ls.length + 1) (iI cs.length)) (by omega) (by rw [f1.i _ _ (by omega)]; exact h22) (fun j hj => by omega) FU (FU_ge (by omega))
  obtain ⟨t3, e3, f3, c3⟩ := e_X5_law_145 (L := 60 + 900 * ls.length) (nc := nc) (by omega) hnc nc 0 t2 (by omega) (by rw [f2.i _ _ (by omega), f1.i _ _ (by omega)]; exact hC.1) (fun j hj => by omega) FU (FU_ge (by omega))
  have F : Fm (fun a j => a = 2 ∧ 60 + 900 * ls.length ≤ j ∧ j < 60 + 900 * ls.length + 900) t t3 := ((f1.le fun a j z => by omega).tr (f2.le fun a j z => by omega)).tr (f3.le fun a j z => by omega)
  have n2 : si t3 2 2 = iI ls.length := by rw [F.i _ _ (by omega)]; exact q2
  have f4 : Fm (fun a j => a = 2 ∧ j = 2) t3 (setI t3 2 2 (iI ((ls.length + 1 : Nat) : Int))) := Fm.set ⟨rfl, rfl⟩
  have FF : Fm (fun a j => a = 2 ∧ (j = 2 ∨ (60 + 900 * ls.length ≤ j ∧ j < 60 + 900 * ls.length + 900))) t (setI t3 2 2 (iI ((ls.length + 1 : Nat) : Int))) := (F.le fun a j z => by omega).tr (f4.le fun a j z => by omega)
  have hM4 : M0 (setI t3 2 2 (iI ((ls.length + 1 : Nat) : Int))) w (ls ++ [cs]) := by
    refine ⟨q1.go FF fun a j h => by unfold inM at h; omega, ?_, by rw [FF.i _ _ (by omega)]; exact q3, fun i law e => ?_⟩
    · rw [List.length_append, si_set, if_pos rfl, if_pos rfl]
      rfl
    · by_cases hi : i < ls.length
      · rw [List.getElem?_append_left hi] at e
        exact (q4 i law e).go fun j j1 j2 => FF.i _ _ (by omega)
      · rw [List.getElem?_append_right (by omega)] at e
        have hi0 : i = ls.length := by
          have : i - ls.length < [cs].length := (List.getElem?_eq_some_iff.mp e).1
          have : i - ls.length < 1 := this
          omega
        subst hi0
        rw [Nat.sub_self] at e
        have e : some cs = some law := e
        cases e
        refine ⟨C, nc, hnc, fun k hk => ?_, ?_, h12, fun i c ec => ClN.m ((hcl i c ec).go (fun j hj => ?_) (Nat.le_refl _) fun _ _ => rfl)⟩
        · rw [f4.i _ _ (by omega), f4.i _ _ (by omega), (c3 k hk).1, (c3 k hk).2, f2.i _ _ (by omega), f2.i _ _ (by omega), f1.i _ _ (by omega), f1.i _ _ (by omega)]
          exact hC.2 k hk
        · rw [f4.i _ _ (by omega), f3.i _ _ (by omega), f2.i _ _ (by omega), si_set, if_pos rfl, if_pos rfl]
        · have hic : i < cs.length := (List.getElem?_eq_some_iff.mp ec).1
          rw [f4.i _ _ (by omega), f3.i _ _ (by omega), show 60 + 900 * ls.length + 2 + 8 * i + j = 60 + 900 * ls.length + 2 + (8 * i + j) by omega, c2 _ (by omega), f1.i _ _ (by omega)]
  obtain ⟨t', e', hM', f'⟩ := OpM.tell0 hM4 (v := ls.length) (by omega)
  refine ⟨t', ?_, hM', (FF.le fun a j z => Or.inr (Or.inr z.1)).tr (f'.le fun _ _ => Or.inl)⟩
  unfold lwK
  rw [if_pos (show si t 0 20 = 0 from h20), k_2, inb_g (by omega), show (iI 2).toNatClampNeg = 2 from rfl, q2, show (60 : Int32) = iI 60 from rfl, show (900 : Int32) = iI 900 from rfl, iI_mul, iI_add, nam_v, k_1, iI_add, inb_g (by omega), iI_nat (by omega), show (60 + 900 * (ls.length : Int) + 1).toNat = 60 + 900 * ls.length + 1 by omega, h22, nam_v, k_0, show (60 + 900 * (ls.length : Int)) = ((60 + 900 * ls.length : Nat) : Int) by omega]
  have e2 : F_X5_law_110 FU (setI t 2 (60 + 900 * ls.length + 1) (iI cs.length)) (iI ((60 + 900 * ls.length : Nat) : Int)) (iI 0) = F_X5_law_145 FU t2 (iI ((60 + 900 * ls.length : Nat) : Int)) (iI 0) := e2
  have e3 : F_X5_law_145 FU t2 (iI ((60 + 900 * ls.length : Nat) : Int)) (iI 0) = _ := e3
  rw [e2, e3, n2, iI_su, nam_v, show si (setI t3 2 2 (iI ((ls.length + 1 : Nat) : Int))) 2 2 = iI ((ls.length + 1 : Nat) : Int) by rw [si_set, if_pos rfl, if_pos rfl], k_1, iI_sub, show (((ls.length + 1 : Nat) : Int) - 1) = (ls.length : Int) by omega]
  exact e'
/-- the tape for a reader -/
theorem TpM.tk {t : St} {w : WR} {ls : List (List DC)} (hM : M0 t w ls) (hT : TpM t w) (hX : Wx w) (hO : tapeOk w) {tag : Int} : TkB t (tapeT tag w) (w 0 11).toNat := by
  have h11 := hX.1
  refine ⟨?_, fun k hk => ?_, by omega, fun k hk => ?_⟩
  · rw [hM.1.taped, show (((w 0 11).toNat : Nat) : Int) = w 0 11 by omega]
  · have := hT k (by omega) (by omega)
    rw [Int.toNat_natCast] at this
    unfold tapeT
    rw [if_neg (by omega)]
    exact this
  · unfold tapeT
    rw [if_neg (by omega)]
    exact hO k (by omega) (by omega)
theorem m_law {t : St} {w : WR} {ls : List (List DC)} (hM : M0 t w ls) (hW : Wf w ls) (hX : Wx w) (hO : tapeOk w) (hT : TpM t w) (hw : WrdE t) : ∃ t', F_X5_law t = some (iI (lawXV w ls), t') ∧ M0 t' (lawXW w ls) (lawXL w ls) ∧ Fm Sln t t' := by
  have hl6 := hW.2.2.2.1
  have f0 := hM.thrown.2
  have hM1 := hM.thrown.1
  have hT1 : TpM (setI t 0 0 (0 : Int32)) w := hT.go f0 fun _ => rfl
  have hw1 : WrdE (setI t 0 0 (0 : Int32)) := hw
  unfold F_X5_law lawXV lawXW lawXL
  rw [nam_v]
  generalize setI t 0 0 (0 : Int32) = t1 at hM1 hT1 hw1 f0 ⊢
  have n2 : si t1 2 2 = iI ls.length := hM1.2.1
  have f0' : Fm Sln t t1 := f0.le fun _ _ => Or.inl
  rw [k_2, inb_g (by omega), show (iI 2).toNatClampNeg = 2 from rfl, n2, k_6]
  by_cases a : ls.length = 6
  · rw [if_pos (by rw [a]; rfl), if_pos a, if_pos a, if_pos a, k_0, nam_v, show (-5 : Int32) = iI (-5) from rfl]
    obtain ⟨t', e, h', f'⟩ := OpM.tellN (hM1.set (r := 0) (k := 11) (v := 0) (a := 0) (j := 14) (by show _ ∨ _; omega) (by omega) rfl rfl) (v := -5) (by omega)
    exact ⟨t', e, h', (f0'.tr (Fm.set (Or.inl (Or.inl (by unfold inM; omega))))).tr (f'.le fun _ _ => Or.inl)⟩
  · have h := e_lawText (hT1.tk hM1 hX hO (tag := 6)) hw1
    rw [if_neg (by rw [iI_eq (by omega) (by omega)]; omega), if_neg a, if_neg a, if_neg a]
    have h : TxL t1 _ (lawTxt w) := h
    generalize lawTxt w = R at h ⊢
    rcases R with q | cs
    · obtain ⟨t2, e2, ⟨g20, g19, g21, g14⟩, f2⟩ := h
      have hM2 := hM1.txt f2 g19 g21 g14
      obtain ⟨t', e', h', f'⟩ := OpM.tellN hM2 (v := -6) (by omega)
      refine ⟨t', ?_, h', (f0'.tr (f2.le fun _ _ => Stx_ln)).tr (f'.le fun _ _ => Or.inl)⟩
      rw [e2]
      unfold lwK
      rw [g20, if_neg (show ¬ iI 1 = (0 : Int32) by decide), show (-6 : Int32) = iI (-6) from rfl]
      exact e'
    · obtain ⟨t2, C, nc, e2, ⟨g20, g19, g21, g14⟩, f2, ⟨g22, g12⟩, hcl, hC, hnc⟩ := h
      have hM2 := hM1.txt f2 g19 g21 g14
      obtain ⟨t', e', h', f'⟩ := e_lwK hM2 (by omega) g20 g22 g12 hcl hC hnc
      exact ⟨t', e2.trans e', h', (f0'.tr (f2.le fun _ _ => Stx_ln)).tr f'⟩
