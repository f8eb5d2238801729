set_option maxRecDepth 100000
/-! ===== the model's world: what lies where, what stays ===== -/
/-- all is as it was, but (at most) the places of S; longs are told as of the array a + 100 -/
def Fm (S : Nat → Nat → Prop) (t t' : St) : Prop := sk t' = sk t ∧ sr t' = sr t ∧ (sn t' = sn t ∧ ss t' = ss t ∧ smx t' = smx t ∧ sms t' = sms t) ∧ (∀ a k, ¬ S a k → si t' a k = si t a k) ∧ (∀ a k, ¬ S (a + 100) k → sl t' a k = sl t a k)
theorem Fm.rf {S : Nat → Nat → Prop} {t : St} : Fm S t t := ⟨rfl, rfl, ⟨rfl, rfl, rfl, rfl⟩, fun _ _ _ => rfl, fun _ _ _ => rfl⟩
theorem Fm.tr {S : Nat → Nat → Prop} {t t1 t2 : St} (h : Fm S t t1) (g : Fm S t1 t2) : Fm S t t2 :=
  ⟨g.1.trans h.1, g.2.1.trans h.2.1, ⟨g.2.2.1.1.trans h.2.2.1.1, g.2.2.1.2.1.trans h.2.2.1.2.1, g.2.2.1.2.2.1.trans h.2.2.1.2.2.1, g.2.2.1.2.2.2.trans h.2.2.1.2.2.2⟩, fun a k z => (g.2.2.2.1 a k z).trans (h.2.2.2.1 a k z), fun a k z => (g.2.2.2.2 a k z).trans (h.2.2.2.2 a k z)⟩
theorem Fm.le {S S' : Nat → Nat → Prop} {t t' : St} (h : Fm S t t') (g : ∀ a k, S a k → S' a k) : Fm S' t t' := ⟨h.1, h.2.1, h.2.2.1, fun a k z => h.2.2.2.1 a k fun y => z (g a k y), fun a k z => h.2.2.2.2 a k fun y => z (g _ k y)⟩
theorem Fm.i {S : Nat → Nat → Prop} {t t' : St} (h : Fm S t t') (a k : Nat) (g : ¬ S a k) : si t' a k = si t a k := h.2.2.2.1 a k g
theorem Fm.l {S : Nat → Nat → Prop} {t t' : St} (h : Fm S t t') (a k : Nat) (g : ¬ S (a + 100) k) : sl t' a k = sl t a k := h.2.2.2.2 a k g
theorem Fm.set {S : Nat → Nat → Prop} {t : St} {a k : Nat} {v : Int32} (h : S a k) : Fm S t (setI t a k v) := ⟨rfl, rfl, ⟨rfl, rfl, rfl, rfl⟩, fun b j z => by
  rw [si_set]
  split
  · rename_i e
    split
    · rename_i e2
      exact absurd (by rw [e, e2]; exact h) z
    · rfl
  · rfl, fun _ _ _ => rfl⟩
theorem sl_set {s : St} {a k b j : Nat} {v : Int64} : sl (setL s a k v) b j = if b = a then (if j = k then v else sl s b j) else sl s b j := rfl
theorem Fm.setL {S : Nat → Nat → Prop} {t : St} {a k : Nat} {v : Int64} (h : S (a + 100) k) : Fm S t (setL t a k v) := ⟨rfl, rfl, ⟨rfl, rfl, rfl, rfl⟩, fun _ _ _ => rfl, fun b j z => by
  rw [sl_set]
  split
  · rename_i e
    split
    · rename_i e2
      exact absurd (by rw [e, e2]; exact h) z
    · rfl
  · rfl⟩
/-- where the model keeps what the component has as the int k of the cell r -/
def mA (r : Nat) : Nat := match r with
  | 0 => 0
  | 1 => 1
  | 13 => 5
  | 14 => 6
  | 29 => 28
  | 30 => 28
  | _ => 2
def mK (r : Nat) (k : Int) : Nat := match r with
  | 0 => if k = 0 then 1 else if k = 11 then 14 else if k = 12 then 19 else if k = 13 then 12 else if k = 14 then 61 else if k = 15 then 8 else 65
  | 2 => (k - 8 + (k - 8) / 2).toNat
  | 3 => (16 + 5 * k).toNat
  | 4 => (13 + 5 * k).toNat
  | 5 => (14 + 5 * k).toNat
  | 6 => (15 + 5 * k).toNat
  | 7 => (17 + 5 * k).toNat
  | 8 => (4 + k).toNat
  | 9 => (43 + k).toNat
  | 29 => (2 * k).toNat
  | 30 => (2 * k + 1).toNat
  | _ => k.toNat
def relM (r : Nat) (k : Int) : Prop := match r with
  | 0 => k = 0 ∨ (11 ≤ k ∧ k ≤ 15) ∨ k = 26
  | 1 => k < 7
  | 2 => 8 ≤ k ∧ k ≤ 10
  | 3 => k < 6
  | 4 => k < 6
  | 5 => k < 6
  | 6 => k < 6
  | 7 => k < 6
  | 8 => k < 9
  | 9 => k < 8
  | 13 => k < 96
  | 14 => k < 16
  | 29 => k < 6
  | 30 => k < 6
  | _ => False
def rgs : List Nat := [0, 1, 2, 3, 4, 5, 6, 7, 8, 9, 13, 14, 29, 30]
theorem relM_m {r : Nat} {k : Int} (h : relM r k) : r ∈ rgs := by
  unfold relM at h
  split at h <;> first | exact h.elim | decide
/-- the places of the registers -/
def inM (a j : Nat) : Prop := (a = 0 ∧ (j = 1 ∨ j = 8 ∨ j = 12 ∨ j = 14 ∨ j = 19 ∨ j = 61 ∨ j = 65)) ∨ (a = 1 ∧ j < 7) ∨ (a = 2 ∧ (j = 0 ∨ j = 1 ∨ j = 3 ∨ (4 ≤ j ∧ j < 51))) ∨ (a = 5 ∧ j < 96) ∨ (a = 6 ∧ j < 16) ∨ (a = 28 ∧ j < 12)
theorem inM_0 {k : Int} (h : k = 0 ∨ (11 ≤ k ∧ k ≤ 15) ∨ k = 26) : inM 0 (mK 0 k) := by
  have hk : k = 0 ∨ k = 11 ∨ k = 12 ∨ k = 13 ∨ k = 14 ∨ k = 15 ∨ k = 26 := by omega
  unfold inM
  rcases hk with rfl | rfl | rfl | rfl | rfl | rfl | rfl <;> decide
theorem relM_in {r : Nat} {k : Int} (h : relM r k) (h0 : 0 ≤ k) : inM (mA r) (mK r k) := by
  have hm := relM_m h
  simp only [rgs, List.mem_cons, List.not_mem_nil, or_false] at hm
  rcases hm with rfl | rfl | rfl | rfl | rfl | rfl | rfl | rfl | rfl | rfl | rfl | rfl | rfl | rfl <;> simp only [relM] at h <;> simp only [mA, mK] <;> unfold inM <;> first | omega | exact inM_0 h
theorem mK0_inj {k k' : Int} (h : k = 0 ∨ (11 ≤ k ∧ k ≤ 15) ∨ k = 26) (h' : k' = 0 ∨ (11 ≤ k' ∧ k' ≤ 15) ∨ k' = 26) (e : mK 0 k = mK 0 k') : k = k' := by
  have hk : k = 0 ∨ k = 11 ∨ k = 12 ∨ k = 13 ∨ k = 14 ∨ k = 15 ∨ k = 26 := by omega
  have hk' : k' = 0 ∨ k' = 11 ∨ k' = 12 ∨ k' = 13 ∨ k' = 14 ∨ k' = 15 ∨ k' = 26 := by omega
  rcases hk with rfl | rfl | rfl | rfl | rfl | rfl | rfl <;> rcases hk' with rfl | rfl | rfl | rfl | rfl | rfl | rfl <;> revert e <;> decide
theorem loc_inj {r r' : Nat} {k k' : Int} (h : relM r k) (h0 : 0 ≤ k) (h' : relM r' k') (h0' : 0 ≤ k') (e1 : mA r = mA r') (e2 : mK r k = mK r' k') : r = r' ∧ k = k' := by
  have hm := relM_m h
  have hm' := relM_m h'
  simp only [rgs, List.mem_cons, List.not_mem_nil, or_false] at hm hm'
  rcases hm with rfl | rfl | rfl | rfl | rfl | rfl | rfl | rfl | rfl | rfl | rfl | rfl | rfl | rfl <;> simp only [relM] at h <;> rcases hm' with rfl | rfl | rfl | rfl | rfl | rfl | rfl | rfl | rfl | rfl | rfl | rfl | rfl | rfl <;> simp only [relM] at h' <;> first | exact ⟨rfl, mK0_inj h h' e2⟩ | (simp only [mA, mK] at e1 e2; omega)
/-- the registers, as the model has them -/
def RMi (t : St) (w : WR) : Prop := ∀ r k, 0 ≤ k → relM r k → si t (mA r) (mK r k) = iI (w r k)
theorem RMi.set {t : St} {w : WR} (h : RMi t w) {r : Nat} {k v : Int} (hr : relM r k) (hk : 0 ≤ k) : RMi (setI t (mA r) (mK r k) (iI v)) (wup w r k v) := by
  intro r' k' h0 h1
  rw [si_set]
  unfold wup
  by_cases e : r' = r ∧ k' = k
  · obtain ⟨rfl, rfl⟩ := e
    simp
  · rw [if_neg e]
    by_cases e1 : mA r' = mA r
    · rw [if_pos e1, if_neg (fun e2 => e (loc_inj h1 h0 hr hk e1 e2))]
      exact h r' k' h0 h1
    · rw [if_neg e1]
      exact h r' k' h0 h1
theorem RMi.go {S : Nat → Nat → Prop} {t t' : St} {w : WR} (h : RMi t w) (hf : Fm S t t') (hS : ∀ a j, inM a j → ¬ S a j) : RMi t' w := fun r k h0 h1 => by
  rw [hf.i _ _ (hS _ _ (relM_in h1 h0))]
  exact h r k h0 h1
/-- code: (sign, its number) by places -/
abbrev CD : Type := Nat → Int × Int
def codE (t : St) (L : Nat) (n : Nat) (C : CD) : Prop := ∀ k, k < n → si t 2 (L + 98 + 2 * k) = iI (C k).1 ∧ si t 2 (L + 98 + 2 * k + 1) = iI (C k).2
