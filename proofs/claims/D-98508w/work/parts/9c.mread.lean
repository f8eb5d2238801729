set_option maxRecDepth 100000
/-! ===== the model's reader: leaves ===== -/
theorem wd_law : ∀ i, i < 14 → wdL (strB (31 + i)) := by unfold wdL; decide
theorem wd_ord : ∀ i, i < 5 → wdL (strB i) := by unfold wdL; decide
theorem wd_hd : ∀ i, i < 4 → wdL (strB (27 + i)) := by unfold wdL; decide
theorem str_inj : ∀ i, i < 45 → ∀ j, j < 45 → strB i = strB j → i = j := by decide
theorem tok_un {T : Nat → Int} {n p : Nat} {l l' : List Int} (h : tokIs T n p l) (h' : tokIs T n p l') : l = l' := by
  have e : l.length = l'.length := by have := h.1; have := h'.1; omega
  apply List.ext_getElem e
  intro k k1 k2
  have a := h.2 k k1
  have b := h'.2 k k2
  rw [List.getD_eq_getElem?_getD, List.getElem?_eq_getElem k1] at a
  rw [List.getD_eq_getElem?_getD, List.getElem?_eq_getElem k2] at b
  exact a.symm.trans b
theorem str_un {T : Nat → Int} {n p i j : Nat} (hi : i < 45) (hj : j < 45) (h : tokIs T n p (strB i)) (h' : tokIs T n p (strB j)) : i = j := str_inj i hi j hj (tok_un h h')
/-- the words that the model knows -/
def WrdE (t : St) : Prop := (∀ i, i < 14 → sl t 16 i = lI (hsL (strB (31 + i)))) ∧ (∀ i, i < 5 → sl t 17 i = lI (hsL (strB i))) ∧ ∀ i, i < 4 → sl t 18 i = lI (hsL (strB (27 + i)))
theorem WrdE.go {S : Nat → Nat → Prop} {t t' : St} (h : WrdE t) (hf : Fm S t t') (hS : ∀ a k, 116 ≤ a → a ≤ 118 → ¬ S a k) : WrdE t' := ⟨fun i hi => by rw [hf.l _ _ (hS _ _ (by omega) (by omega))]; exact h.1 i hi, fun i hi => by rw [hf.l _ _ (hS _ _ (by omega) (by omega))]; exact h.2.1 i hi, fun i hi => by rw [hf.l _ _ (hS _ _ (by omega) (by omega))]; exact h.2.2 i hi⟩
/-- which word it is -/
noncomputable def wfZ (T : Nat → Int) (n p base : Nat) : Nat → Int
  | 0 => -1
  | k + 1 => @ite _ (tokIs T n p (strB (base + k))) (Classical.propDecidable _) ((k : Int) + 1) (wfZ T n p base k)
theorem wfZ_r {T : Nat → Int} {n p base : Nat} : ∀ k, (wfZ T n p base k = -1 ∧ ∀ i, i < k → ¬ tokIs T n p (strB (base + i))) ∨ (1 ≤ wfZ T n p base k ∧ wfZ T n p base k ≤ k ∧ tokIs T n p (strB (base + ((wfZ T n p base k).toNat - 1))))
  | 0 => Or.inl ⟨rfl, fun i hi => by omega⟩
  | k + 1 => by
    rw [wfZ]
    by_cases c : tokIs T n p (strB (base + k))
    · rw [if_pos c]
      refine Or.inr ⟨by omega, by omega, ?_⟩
      rw [show ((k : Int) + 1).toNat - 1 = k by omega]
      exact c
    · rw [if_neg c]
      rcases wfZ_r (T := T) (n := n) (p := p) (base := base) k with h | h
      · refine Or.inl ⟨h.1, fun i hi => ?_⟩
        by_cases e : i = k
        · rw [e]; exact c
        · exact h.2 i (by omega)
      · exact Or.inr ⟨h.1, by omega, h.2.2⟩
theorem e_X5_partAt_4 {t : St} {T : Nat → Int} {n p : Nat} (h : TkE t T n p) (hw : WrdE t) : ∀ (j k : Nat), 14 = j + k → ∀ fu, j < fu → F_X5_partAt_4 fu t (iI (wfZ T n p 31 k)) (iI k) = some (iI (wfZ T n p 31 14), t) := by
  intro j
  induction j with
  | zero =>
    intro k hk fu hfu
    obtain ⟨g, rfl⟩ : ∃ g, fu = g + 1 := ⟨fu - 1, by omega⟩
    simp only [F_X5_partAt_4]
    rw [k_14, if_pos (by rw [iI_le (by omega) (by omega)]; omega), show k = 14 by omega]
  | succ j ih =>
    intro k hk fu hfu
    obtain ⟨g, rfl⟩ : ∃ g, fu = g + 1 := ⟨fu - 1, by omega⟩
    have := ih (k + 1) (by omega) g (by omega)
    rw [wfZ] at this
    simp only [F_X5_partAt_4]
    rw [k_14, if_neg (by rw [iI_le (by omega) (by omega)]; omega), inb_g (by omega), iI_nat (by omega), Int.toNat_natCast, hw.1 k (by omega), e_X5_isWord h (wd_law k (by omega)) rfl, bnd_s, k_0, iI_su]
    by_cases c : tokIs T n p (strB (31 + k))
    · rw [if_pos c] at this
      rw [if_neg (by rw [bZ_i0]; exact fun z => z c)]
      exact this
    · rw [if_neg c] at this
      rw [if_pos (by rw [bZ_i0]; exact c)]
      exact this
theorem e_X5_orderPartAt_4 {t : St} {T : Nat → Int} {n p : Nat} (h : TkE t T n p) (hw : WrdE t) : ∀ (j k : Nat), 5 = j + k → ∀ fu, j < fu → F_X5_orderPartAt_4 fu t (iI (wfZ T n p 0 k)) (iI k) = some (iI (wfZ T n p 0 5), t) := by
  intro j
  induction j with
  | zero =>
    intro k hk fu hfu
    obtain ⟨g, rfl⟩ : ∃ g, fu = g + 1 := ⟨fu - 1, by omega⟩
    simp only [F_X5_orderPartAt_4]
    rw [k_5, if_pos (by rw [iI_le (by omega) (by omega)]; omega), show k = 5 by omega]
  | succ j ih =>
    intro k hk fu hfu
    obtain ⟨g, rfl⟩ : ∃ g, fu = g + 1 := ⟨fu - 1, by omega⟩
    have := ih (k + 1) (by omega) g (by omega)
    rw [wfZ, Nat.zero_add] at this
    simp only [F_X5_orderPartAt_4]
    rw [k_5, if_neg (by rw [iI_le (by omega) (by omega)]; omega), inb_g (by omega), iI_nat (by omega), Int.toNat_natCast, hw.2.1 k (by omega), e_X5_isWord h (wd_ord k (by omega)) rfl, bnd_s, k_0, iI_su]
    by_cases c : tokIs T n p (strB k)
    · rw [if_pos c] at this
      rw [if_neg (by rw [bZ_i0]; exact fun z => z c)]
      exact this
    · rw [if_neg c] at this
      rw [if_pos (by rw [bZ_i0]; exact c)]
      exact this
theorem e_X5_partAt {t : St} {T : Nat → Int} {n p : Nat} (h : TkE t T n p) (hw : WrdE t) : F_X5_partAt t = some (iI (wfZ T n p 31 14), t) := e_X5_partAt_4 h hw 14 0 (by omega) FU (FU_ge (by omega))
theorem e_X5_orderPartAt {t : St} {T : Nat → Int} {n p : Nat} (h : TkE t T n p) (hw : WrdE t) : F_X5_orderPartAt t = some (iI (wfZ T n p 0 5), t) := e_X5_orderPartAt_4 h hw 5 0 (by omega) FU (FU_ge (by omega))
/-! the reader's state -/
def RdM (ord : Bool) (t : St) (T : Nat → Int) (n p : Nat) (P : List (Int × Nat)) (C : CD) (nc l d : Nat) : Prop := TkG t T n p ∧ PcE ord t P C nc l d ∧ WrdE t ∧ (nc + cnt P ≤ p ∧ P.length ≤ p)
def BdM (ord : Bool) (t : St) (T : Nat → Int) (n q : Nat) : Prop := TkF t T n q ∧ WrdE t ∧ ∃ P C nc l d, PcE ord t P C nc l d
def Sex (a j : Nat) : Prop := Smu a j ∨ Spc a j
theorem Smu_pc {a j : Nat} (h : Smu a j) : ¬ (a = 0 ∧ 21 ≤ j ∧ j ≤ 31) ∧ ¬ (12 ≤ a ∧ a ≤ 15) := by unfold Smu Stk at h; omega
theorem PcE.mu {ord : Bool} {t t' : St} {P : List (Int × Nat)} {C : CD} {nc l d : Nat} (h : PcE ord t P C nc l d) (hf : Fm Smu t t') : PcE ord t' P C nc l d := h.go hf ⟨fun j h1 h2 z => (Smu_pc z).1 ⟨rfl, h1, h2⟩, fun a k h1 h2 z => (Smu_pc z).2 ⟨h1, h2⟩⟩
theorem WrdE.ex {t t' : St} (h : WrdE t) (hf : Fm Sex t t') : WrdE t' := h.go hf fun a k h1 h2 z => by unfold Sex Smu Stk Spc at z; omega
theorem TkG.pc {t t' : St} {T : Nat → Int} {n p : Nat} (h : TkG t T n p) (hf : Fm Spc t t') : TkG t' T n p := h.go hf ⟨fun j h1 h2 z => by unfold Spc at z; omega, fun k z => by unfold Spc at z; omega, fun z => by unfold Spc at z; omega⟩
theorem TkF.pc {t t' : St} {T : Nat → Int} {n p : Nat} (h : TkF t T n p) (hf : Fm Spc t t') : TkF t' T n p := h.go hf ⟨fun z => by unfold Spc at z; omega, fun z => by unfold Spc at z; omega, fun z => by unfold Spc at z; omega, fun k z => by unfold Spc at z; omega⟩
theorem RdM.nx {ord : Bool} {t t' : St} {T : Nat → Int} {n p p' : Nat} {P : List (Int × Nat)} {C : CD} {nc l d : Nat} (h : RdM ord t T n p P C nc l d) (h' : TkG t' T n p') (hf : Fm Smu t t') (hp : p ≤ p') : RdM ord t' T n p' P C nc l d := ⟨h', h.2.1.mu hf, h.2.2.1.ex (hf.le fun _ _ => Or.inl), by have := h.2.2.2; omega⟩
theorem RdM.bd {ord : Bool} {t t' : St} {T : Nat → Int} {n p q : Nat} {P : List (Int × Nat)} {C : CD} {nc l d : Nat} (h : RdM ord t T n p P C nc l d) (h' : TkF t' T n q) (hf : Fm Smu t t') : BdM ord t' T n q := ⟨h', h.2.2.1.ex (hf.le fun _ _ => Or.inl), P, C, nc, l, d, h.2.1.mu hf⟩
theorem RdM.p {ord : Bool} {t : St} {T : Nat → Int} {n p : Nat} {P : List (Int × Nat)} {C : CD} {nc l d : Nat} (h : RdM ord t T n p P C nc l d) : p ≤ n ∧ n ≤ 400 := ⟨h.1.1.2.1, h.1.1.1.2.2.1⟩
/-- a sign is pushed -/
theorem RdM.push {ord : Bool} {t : St} {T : Nat → Int} {n p : Nat} {P : List (Int × Nat)} {C : CD} {nc l d : Nat} (h : RdM ord t T n p P C nc l d) {op : Int} (ho : (20 ≤ op ∧ op ≤ 28) ∨ op = 31 ∨ op = 32) (hp : P.length < 400 ∧ nc + cnt P < 400) : ∃ t', F_X5_push t (iI op) (iI 0) = some ((), t') ∧ TkG t' T n p ∧ PcE ord t' ((op, 0) :: P) C nc l d ∧ WrdE t' ∧ Fm Spc t t' := by
  obtain ⟨h1, h2, h3, h4⟩ := h
  have hc : cnt ((op, 0) :: P) ≤ 1 + cnt P := by rw [cnt_cons]; split <;> omega
  obtain ⟨t', e, ⟨a1, a2, a3⟩, f⟩ := e_X5_push h2 (op := op) (at_ := 0) (by omega) (by omega) (fun z => by unfold jmpO at z; exfalso; have z : op = 29 ∨ op = 30 := z; omega) hp.1 (by omega)
  refine ⟨t', e, h1.pc f, ⟨a1, fun x hx => ?_, a2, a3, by omega, by show P.length + 1 ≤ 400; omega⟩, h3.ex (f.le fun _ _ => Or.inr), f⟩
  rcases List.mem_cons.mp hx with rfl | hx
  · exact ⟨by show 20 ≤ op ∧ op ≤ 32; omega, Nat.zero_le _, fun z => by unfold jmpO at z; exfalso; have z : op = 29 ∨ op = 30 := z; omega⟩
  · exact h2.2.1 x hx
/-- a bracket opens -/
theorem e_openB {ord : Bool} {t : St} {T : Nat → Int} {n p : Nat} {P : List (Int × Nat)} {C : CD} {nc l d : Nat} (h : RdM ord t T n p P C nc l d) (hlt : p < n) {op : Int} (ho : op = 31 ∨ op = 32) (hd : d ≤ 8) : (d < 8 → ∃ t', F_X5_openBracket t (iI op) = some ((), t') ∧ RdM ord t' T n (nxt T n p) ((op, 0) :: P) C nc l (d + 1) ∧ Fm Sex t t') ∧ (d = 8 → ∃ t', F_X5_openBracket t (iI op) = some ((), t') ∧ BdM ord t' T n p ∧ Fm Sex t t') := by
  have h31 := h.2.1.2.2.2.1.2.1
  have hpn := h.p
  have hnx := (nxt_r (T := T) hpn.1).2.2 hlt
  have hP := h.2.2.2
  unfold F_X5_openBracket F_X5_openBracket_15
  rw [h31, k_8, k_0, k_1]
  constructor
  · intro hd
    obtain ⟨t1, e1, g1, f1⟩ := e_must_1 h.1
    have r1 := h.nx g1 (f1.le fun _ _ => Or.inl) (by omega)
    have f2 : Fm (fun a j => a = 0 ∧ j = 31) t1 (setI t1 0 31 (iI ((d + 1 : Nat) : Int))) := Fm.set ⟨rfl, rfl⟩
    have r2 : RdM ord (setI t1 0 31 (iI ((d + 1 : Nat) : Int))) T n (nxt T n p) P C nc l (d + 1) := by
      obtain ⟨a1, ⟨⟨b1, b2⟩, b3, b4, b5, b6⟩, a3, a4⟩ := r1
      exact ⟨a1.pc (f2.le fun a j z => by unfold Spc; omega), ⟨⟨b1.go fun k _ => ⟨rfl, rfl⟩, b2⟩, b3, b4.go f2 ⟨by omega, fun k => by omega⟩, ⟨b5.1, by rw [si_set, if_pos rfl, if_pos rfl], b5.2.2⟩, b6⟩, a3.ex (f2.le fun a j z => Or.inr (by unfold Spc; omega)), a4⟩
    obtain ⟨t3, e3, g3, p3, w3, f3⟩ := r2.push (op := op) (by omega) (by omega)
    rw [if_neg (by rw [iI_le (by omega) (by omega)]; omega), e1, bnd_s, g1.2.1, if_pos rfl, show si t1 0 31 = iI d from r1.2.1.2.2.2.1.2.1, show iI (d : Int) + iI 1 = iI ((d + 1 : Nat) : Int) from iI_su, nam_v, e3, bnd_s]
    refine ⟨t3, rfl, ⟨g3, p3, w3, ?_⟩, ((f1.le fun _ _ z => Or.inl (Or.inl z)).tr (f2.le fun a j z => Or.inr (by unfold Spc; omega))).tr (f3.le fun _ _ => Or.inr)⟩
    rw [cnt_cons, if_neg (by show ¬ (20 ≤ op ∧ op ≤ 28); omega)]
    simp only [List.length_cons]
    omega
  · intro hd
    obtain ⟨t1, e1, g1, f1⟩ := e_must_0 h.1
    rw [if_pos (by rw [iI_le (by omega) (by omega)]; omega), e1, bnd_s, g1.2.1, if_neg (by decide)]
    exact ⟨t1, rfl, h.bd g1 (f1.le fun _ _ => Or.inr), f1.le fun _ _ z => Or.inl (Or.inr z)⟩
/-- a leaf -/
theorem e_leaf {ord : Bool} {t : St} {T : Nat → Int} {n p : Nat} {P : List (Int × Nat)} {C : CD} {nc l d : Nat} (h : RdM ord t T n p P C nc l d) {op arg : Int} {Q : Prop} (hlt : Q → p < n) (hl : l ≤ 50) : (Q ∧ l < 50 → ∃ t', F_X5_leaf t (iI (bZ Q)) (iI op) (iI arg) = some ((), t') ∧ RdM ord t' T n (nxt T n p) P (upC C nc (op, arg)) (nc + 1) (l + 1) d ∧ Fm Sex t t') ∧ (¬ (Q ∧ l < 50) → ∃ t', F_X5_leaf t (iI (bZ Q)) (iI op) (iI arg) = some ((), t') ∧ BdM ord t' T n p ∧ Fm Sex t t') := by
  have h27 := h.2.1.2.2.2.1.1
  have hpn := h.p
  have hP := h.2.2.2
  have bad : ∃ t', F_X5_leaf_18 t (iI op) (iI arg) = some ((), t') ∧ BdM ord t' T n p ∧ Fm Sex t t' := by
    obtain ⟨t1, e1, g1, f1⟩ := e_must_0 h.1
    unfold F_X5_leaf_18 F_X5_leaf_19
    rw [k_0, e1, bnd_s, g1.2.1, if_neg (by decide)]
    exact ⟨t1, rfl, h.bd g1 (f1.le fun _ _ => Or.inr), f1.le fun _ _ z => Or.inl (Or.inr z)⟩
  unfold F_X5_leaf
  rw [h27, k_50, k_0, k_1]
  constructor
  · rintro ⟨hQ, hl2⟩
    have hltn := hlt hQ
    have hnx := (nxt_r (T := T) hpn.1).2.2 hltn
    obtain ⟨t1, e1, g1, f1⟩ := e_must_1 h.1
    have r1 := h.nx g1 (f1.le fun _ _ => Or.inl) (by omega)
    obtain ⟨a1, ⟨⟨b1, b2⟩, b3, b4, b5, b6⟩, a3, a4⟩ := r1
    obtain ⟨t2, e2, c2, f2⟩ := b4.emit (op := op) (arg := arg) (by omega)
    have f3 : Fm (fun a j => a = 0 ∧ j = 27) t2 (setI t2 0 27 (iI ((l + 1 : Nat) : Int))) := Fm.set ⟨rfl, rfl⟩
    have f23 := (f2.le fun a j z => (show Spc a j by unfold Spc; omega)).tr (f3.le fun a j z => (show Spc a j by unfold Spc; omega))
    have h27' : si t2 0 27 = iI l := by rw [f2.i _ _ (by omega)]; exact b5.1
    rw [if_neg (by rw [bZ_i0]; exact fun z => z hQ), if_neg (by rw [iI_le (by omega) (by omega)]; omega)]
    unfold F_X5_leaf_19
    rw [e1, bnd_s, g1.2.1, k_0, if_pos rfl, e2, bnd_s, h27', iI_su, nam_v]
    refine ⟨_, rfl, ⟨a1.pc f23, ⟨⟨b1.go fun k _ => ⟨?_, ?_⟩, ?_⟩, fun x hx => ⟨(b3 x hx).1, (b3 x hx).2.1, fun z => by have := (b3 x hx).2.2 z; omega⟩, c2.go f3 ⟨by omega, fun k => by omega⟩, ⟨by rw [si_set, if_pos rfl, if_pos rfl], ?_, ?_⟩, ?_, b6.2⟩, a3.ex (f23.le fun _ _ => Or.inr), ?_⟩, (f1.le fun _ _ z => Or.inl (Or.inl z)).tr (f23.le fun _ _ => Or.inr)⟩
    · rw [f3.i _ _ (by omega), f2.i _ _ (by omega)]
    · rw [f3.i _ _ (by omega), f2.i _ _ (by omega)]
    · rw [f3.i _ _ (by omega), f2.i _ _ (by omega)]; exact b2
    · rw [f3.i _ _ (by omega), f2.i _ _ (by omega)]; exact b5.2.1
    · rw [f3.i _ _ (by omega), f2.i _ _ (by omega)]; exact b5.2.2
    · have := (nxt_r (T := T) hpn.1).2.1; omega
    · omega
  · intro hn
    by_cases q : Q
    · rw [if_neg (by rw [bZ_i0]; exact fun z => z q), if_pos (by rw [iI_le (by omega) (by omega)]; have : ¬ l < 50 := fun z => hn ⟨q, z⟩; omega)]
      exact bad
    · rw [if_pos (by rw [bZ_i0]; exact q)]
      exact bad
