set_option maxRecDepth 100000
/-! ===== the model: one order is run ===== -/
theorem rushF_ok {ls : List (List DC)} {m : Int} (hm : 0 ≤ m ∧ m ≤ 6) : ∀ (n : Nat) (c : Int) (w : WR) (k : Int), Wf w ls → w 2 8 = m → 0 ≤ c → m = n + c → 0 ≤ k → Wf (rushF ls n c w k).2 ls ∧ (∀ r j, r ≠ 3 → (rushF ls n c w k).2 r j = w r j) ∧ 0 ≤ (rushF ls n c w k).1 ∧ (rushF ls n c w k).1 ≤ k + n := by
  intro n
  induction n with
  | zero =>
    intro c w k hW _ _ _ hk
    exact ⟨hW, fun _ _ _ => rfl, hk, by show k ≤ k + 0; omega⟩
  | succ n ih =>
    intro c w k hW hw h0 hn hk
    have hcat := hW.cat (c := c) h0 (by omega)
    rw [rushF]
    by_cases a1 : w 7 c = -1
    · rw [if_pos a1]
      obtain ⟨q1, q2, q3, q4⟩ := ih (c + 1) w k hW hw (by omega) (by omega) hk
      exact ⟨q1, q2, q3, by omega⟩
    · have hok := stW_ok hW (ls := ls) (c := c) (by omega) (by omega)
      rw [if_neg a1]
      obtain ⟨q1, q2, q3, q4⟩ := ih (c + 1) _ (k + (if stepZ w ls c = w 3 c then 0 else 1)) hok.1 (by rw [hok.2 _ _ (by decide)]; exact hw) (by omega) (by omega) (by split <;> omega)
      have hd : 0 ≤ (if stepZ w ls c = w 3 c then (0 : Int) else 1) ∧ (if stepZ w ls c = w 3 c then (0 : Int) else 1) ≤ 1 := by split <;> omega
      refine ⟨q1, fun r j hr => (q2 r j hr).trans (hok.2 r j hr), q3, ?_⟩
      generalize (if stepZ w ls c = w 3 c then (0 : Int) else 1) = d at hd q4 ⊢
      omega
theorem rush_pure {w : WR} {ls : List (List DC)} (hW : Wf w ls) (hX : Wx w) : (Wf (rushW w ls) ls ∧ Wx (rushW w ls)) ∧ (∀ r k, r ≠ 0 → r ≠ 3 → r ≠ 13 → r ≠ 14 → rushW w ls r k = w r k) ∧ (rushZ w ls < 0 → rushW w ls = w) ∧ -3 ≤ rushZ w ls ∧ rushZ w ls ≤ 6 := by
  have hm := hW.1
  unfold rushW rushZ
  by_cases a : w 2 8 = 0
  · rw [if_pos a, if_pos a]
    exact ⟨⟨hW, hX⟩, fun _ _ _ _ _ _ => rfl, fun _ => rfl, by omega⟩
  · rw [if_neg a, if_neg a]
    obtain ⟨q1, q2, q3, q4⟩ := rushF_ok (ls := ls) hm (w 2 8).toNat 0 (keepW w 1) 0 hW.keep (keepW_o (by decide)) (by omega) (by omega) (by omega)
    exact ⟨⟨q1, hX.keep.o fun k => q2 0 k (by decide)⟩, fun r k h0 h3 h13 h14 => (q2 r k h3).trans (keepW_o ⟨h0, h13, h14⟩), fun z => by omega, by omega, by omega⟩
theorem run_pure {w : WR} {ls : List (List DC)} (hW : Wf w ls) (hX : Wx w) {c : OC} {v : Nat → Int} : (Wf (runW w ls c v) ls ∧ Wx (runW w ls c v)) ∧ (∀ r k, 15 ≤ r → runW w ls c v r k = w r k) ∧ (runV w ls c v < 0 → runW w ls c v = w) ∧ -6 ≤ runV w ls c v ∧ runV w ls c v ≤ 35 := by
  unfold runW runV
  cases c.2.1 with
  | none =>
    have h := rush_pure hW hX (ls := ls)
    exact ⟨h.1, fun r k hr => h.2.1 r k (by omega) (by omega) (by omega) (by omega), h.2.2.1, by have := h.2.2.2; show -6 ≤ rushZ w ls; omega, by have := h.2.2.2; show rushZ w ls ≤ 35; omega⟩
  | some q =>
    show (Wf (if c.1 = 0 then goW w ls (toldO q.1 v) (toldO q.2 v) else belW w (toldO q.1 v) (toldO q.2 v)) ls ∧ Wx (if c.1 = 0 then goW w ls (toldO q.1 v) (toldO q.2 v) else belW w (toldO q.1 v) (toldO q.2 v))) ∧ (∀ r k, 15 ≤ r → (if c.1 = 0 then goW w ls (toldO q.1 v) (toldO q.2 v) else belW w (toldO q.1 v) (toldO q.2 v)) r k = w r k) ∧ ((if c.1 = 0 then goZ w ls (toldO q.1 v) (toldO q.2 v) else belZ w (toldO q.1 v) (toldO q.2 v)) < 0 → (if c.1 = 0 then goW w ls (toldO q.1 v) (toldO q.2 v) else belW w (toldO q.1 v) (toldO q.2 v)) = w) ∧ -6 ≤ (if c.1 = 0 then goZ w ls (toldO q.1 v) (toldO q.2 v) else belZ w (toldO q.1 v) (toldO q.2 v)) ∧ (if c.1 = 0 then goZ w ls (toldO q.1 v) (toldO q.2 v) else belZ w (toldO q.1 v) (toldO q.2 v)) ≤ 35
    by_cases a : c.1 = 0
    · have hr := goZ_r (ls := ls) hW (c := toldO q.1 v) (cell := toldO q.2 v)
      rw [if_pos a, if_pos a]
      refine ⟨go_ok hW hX, fun r k h15 => ?_, fun z => ?_, by omega, by omega⟩
      · unfold goW
        split
        · rw [wup_n (by omega), keepW_o (by omega)]
        · rfl
      · unfold goW
        rw [if_neg (by omega)]
    · have hr := belZ_r (w := w) (c := toldO q.1 v) (cell := toldO q.2 v)
      rw [if_neg a, if_neg a]
      refine ⟨bel_ok hW hX, fun r k h15 => ?_, fun z => ?_, by omega, by omega⟩
      · unfold belW
        split
        · rw [wup_n (by omega)]
        · rfl
      · unfold belW
        rw [if_neg (by omega)]
/-! sums and tests of orders -/
theorem e_X5_reckAllO {t : St} {v : Nat → Int} {C : CD} {a b n : Nat} {o : Option Int} (hr : Run C true v b a [] o) (hC : CdE true t 0 n C) (hV : VlE true t v) (hab : a < b ∧ b ≤ n) : ∃ t', F_X5_reckonAll t (iI a) (iI b) = some ((), t') ∧ RkO t t' o := by
  unfold F_X5_reckonAll
  rw [nam_v]
  have hF : Fm Srk t (setI t 0 39 (0 : Int32)) := Fm.set (by unfold Srk; omega)
  have hC' : CdE true t 0 b C := ⟨by have := hC.1; omega, hC.2.1, fun k hk => hC.2.2 k (by omega)⟩
  have hn := hC'.1
  obtain ⟨t', e, h⟩ := e_reck hr (setI t 0 39 (0 : Int32)) 0 FU (hC'.go hF) (hV.go hF) (by show si _ 0 39 = iI 0; rw [si_set, if_pos rfl, if_pos rfl]; rfl) trivial (by simp) (by omega) (FU_ge (by omega))
  exact ⟨t', e, h.after hF⟩
def Ssm (a j : Nat) : Prop := Srk a j ∨ (a = 0 ∧ (j = 21 ∨ j = 62))
/-- what runs over the orders' code -/
def OdC (t : St) (C : CD) (nc : Nat) (v : Nat → Int) : Prop := CodR t C nc ∧ nc ≤ 400 ∧ VlE true t v
theorem OdC.go {t t' : St} {C : CD} {nc : Nat} {v : Nat → Int} (h : OdC t C nc v) (hf : Fm Ssm t t') : OdC t' C nc v := by
  obtain ⟨h1, h2, h3, h4, w, h5, h6⟩ := h
  refine ⟨h1.go hf ⟨by unfold Ssm Srk; omega, fun k => by unfold Ssm Srk; omega⟩, h2, h3, fun k hk => by rw [hf.l _ _ (by unfold Ssm Srk; omega)]; exact h4 k hk, w, h5.go hf fun a j hi z => ?_, h6⟩
  rcases z with z | z
  · exact Srk_m hi z
  · unfold inM at hi
    omega
theorem sumOf_off {t : St} (h : si t 0 62 = iI 1) (a : Int32) : F_X5_sumOf t a = some (lI 0, t) := by
  unfold F_X5_sumOf
  rw [h, if_neg (show ¬ iI 1 = (0 : Int32) by decide)]
  rfl
def SoO (t' : St) (z : Int64) : Option Int → Prop
  | none => si t' 0 62 = iI 1
  | some y => si t' 0 62 = iI 0 ∧ z = lI y
theorem e_X5_sumOf {t : St} {C : CD} {nc a b x : Nat} {v : Nat → Int} {o : Option Int} (hO : OdC t C nc v) (hoff : si t 0 62 = iI 0) (hx : x + 1 < 96) (ha : si t 27 x = iI a) (hb : si t 27 (x + 1) = iI b) (hab : a < b ∧ b ≤ nc) (hr : Run C true v b a [] o) : ∃ t' z, F_X5_sumOf t (iI x) = some (z, t') ∧ Fm Ssm t t' ∧ si t' 0 21 = iI 0 ∧ SoO t' z o := by
  have f1 : Fm Ssm t (setI t 0 21 (iI 1)) := Fm.set (Or.inr (by omega))
  have hO1 := hO.go f1
  obtain ⟨t2, e2, h2⟩ := e_X5_reckAllO (o := o) (n := nc) hr ⟨hO1.2.1, by rw [si_set, if_pos rfl, if_pos rfl], fun k hk => hO1.1.2 k hk⟩ hO1.2.2 hab
  have f2 : Fm Ssm t t2 := f1.tr (h2.1.le fun _ _ => Or.inl)
  have fr : ∀ q : Int, (q = 0 ∨ q = 1) → fits .boolean (.int (iI q)) = true := fun q hq => by rcases hq with rfl | rfl <;> rfl
  have pre : ∀ q : Int, (q = 0 ∨ q = 1) → si t2 0 39 = iI q → F_X5_sumOf t (iI x) = some (sl t2 0 40, setI (setI t2 0 21 (iI 0)) 0 62 (iI q)) := fun q hq e39 => by
    unfold F_X5_sumOf
    rw [if_pos (show si t 0 62 = 0 from hoff), k_1, nam_v, inb_g (by omega), iI_add, inb_g (by omega), iI_nat (by omega), iI_nat (by omega), Int.toNat_natCast, show ((x : Int) + 1).toNat = x + 1 by omega, show si (setI t 0 21 (iI 1)) 27 x = iI a from ha, show si (setI t 0 21 (iI 1)) 27 (x + 1) = iI b from hb, e2, bnd_s, k_0, nam_v, show si (setI t2 0 21 (iI 0)) 0 39 = iI q from e39, gd_ok (fr q hq), nam_v]
    rfl
  have f3 : ∀ q : Int, Fm Ssm t2 (setI (setI t2 0 21 (iI 0)) 0 62 (iI q)) := fun q => (Fm.set (Or.inr (by omega))).tr (Fm.set (Or.inr (by omega)))
  cases o with
  | none =>
    exact ⟨_, _, pre 1 (Or.inr rfl) h2.2, f2.tr (f3 1), rfl, rfl⟩
  | some y =>
    exact ⟨_, _, pre 0 (Or.inl rfl) h2.2.1, f2.tr (f3 0), rfl, rfl, h2.2.2⟩
/-! the registers of orders that run -/
def Srn (a j : Nat) : Prop := Reg a j ∨ (a = 0 ∧ (j = 21 ∨ j = 59 ∨ j = 60 ∨ j = 62)) ∨ a = 120
theorem Ssm_rn {a j : Nat} (h : Ssm a j) : Srn a j := by
  rcases h with h | h
  · exact Or.inl (Or.inr (by unfold Srk at h; unfold Scr; omega))
  · exact Or.inr (Or.inl (by omega))
def OdM (t : St) (C : CD) (nc : Nat) (cs : List OC) : Prop := (∀ i c, cs[i]? = some c → OrN t (8 * i) C nc c) ∧ CodR t C nc ∧ nc ≤ 400 ∧ si t 0 22 = iI cs.length ∧ cs.length ≤ 12
theorem OdM.go {t t' : St} {C : CD} {nc : Nat} {cs : List OC} (h : OdM t C nc cs) (hf : Fm Srn t t') : OdM t' C nc cs :=
  ⟨fun i c e => (h.1 i c e).go (fun j _ => hf.i _ _ (by unfold Srn Reg inM Scr; omega)) (Nat.le_refl _) fun _ _ => rfl, h.2.1.go hf ⟨by unfold Srn Reg inM Scr; omega, fun k => by unfold Srn Reg inM Scr; omega⟩, h.2.2.1, by rw [hf.i _ _ (by unfold Srn Reg inM Scr; omega)]; exact h.2.2.2.1, h.2.2.2.2⟩
theorem M0.ssm {t t' : St} {w : WR} {ls : List (List DC)} (h : M0 t w ls) (hf : Fm Ssm t t') (h21 : si t' 0 21 = iI 0) : M0 t' w ls := by
  obtain ⟨q1, q2, q3, q4⟩ := h
  have g2 : ∀ j, si t' 2 j = si t 2 j := fun j => hf.i _ _ (by unfold Ssm Srk; omega)
  refine ⟨q1.go hf fun a j hi z => ?_, by rw [g2]; exact q2, h21, fun i law e => (q4 i law e).go fun j _ _ => g2 j⟩
  rcases z with z | z
  · exact Srk_m hi z
  · unfold inM at hi
    omega
theorem told_go {w : WR} {ls : List (List DC)} {a b a' b' : Int} (ha : a' = a ∨ ((a < -1 ∨ 1000000 ≤ a) ∧ a' = 1000000)) (hb : b' = b ∨ ((b < -1 ∨ 1000000 ≤ b) ∧ b' = 1000000)) (hm : w 2 8 ≤ 6) : (a' = a ∧ b' = b) ∨ ((goZ w ls a b < 0 ∧ goZ w ls a' b' < 0) ∧ (belZ w a b < 0 ∧ belZ w a' b' < 0)) := by
  by_cases c : a' = a ∧ b' = b
  · exact Or.inl c
  · have n1 : ∀ x y : Int, (x < -1 ∨ 1000000 ≤ x ∨ y < -1 ∨ 1000000 ≤ y) → goZ w ls x y < 0 ∧ belZ w x y < 0 := fun x y h => by
      unfold goZ belZ isC
      constructor
      · split
        · split
          · omega
          · omega
        · omega
      · split
        · split
          · omega
          · omega
        · omega
    have h1 := n1 a b (by omega)
    have h2 := n1 a' b' (by omega)
    exact Or.inr ⟨⟨h1.1, h2.1⟩, h1.2, h2.2⟩
