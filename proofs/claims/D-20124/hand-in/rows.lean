section
/-! ===== the pure picture: where the walk stands (true: at the first cell), and what is answered there ===== -/
/-- n more steps from t -/
def rg_tog : Nat → Bool → Bool
  | 0, t => t
  | n + 1, t => rg_tog n (!t)
def rg_res (a b : Int32) : Bool → Int32
  | true => (a + 1) * 100 + b
  | false => a * 100 + (b + 1)
def rg_b : Bool → Int32
  | true => 1
  | false => 0
def rg_at (x y : Nat) : Bool → Nat
  | true => x
  | false => y
/-- the bound z lets a counter from 0 run n times (n = 0 for a negative z) -/
def rg_N (z : Int32) (n : Nat) : Prop := ∀ i, i < n + 1 → (z ≤ nI i ↔ n ≤ i)
theorem rg_N1 : ∀ k, k < 2 → ∀ i, i < k + 1 → (nI k ≤ nI i ↔ k ≤ i) := by decide +kernel
theorem rg_N15 : ∀ k, k < 16 → ∀ i, i < (k - 2) + 1 → (nI k - 2 ≤ nI i ↔ k - 2 ≤ i) := by decide +kernel
theorem rg_mem {x y : Nat} {LP : List Nat} (hx : x ∈ LP) (hy : y ∈ LP) : ∀ t, rg_at x y t ∈ LP
  | true => hx
  | false => hy
/-! ===== the twin's loop ===== -/
theorem rg_plain {post : Int32 → Prop} {z a b : Int32} {n : Nat} (hz : rg_N z n) : ∀ c i t, i + c = n → post (rg_res a b (rg_tog c t)) → wX3_ringSteps_11 post z a b (c + 1) (rg_b t) (nI i)
  | 0, i, t, h, H => by
    refine br_t ((hz i (by omega)).mpr (by omega)) ?_
    cases t with
    | false => exact br_t rfl (nm_e H)
    | true => exact br_f (by decide) (nm_e H)
  | c + 1, i, t, h, H => by
    refine br_f (fun q => absurd ((hz i (by omega)).mp q) (by omega)) ?_
    cases t with
    | false => exact br_t rfl (nm_r (nI_1 i) (rg_plain hz c (i + 1) true (by omega) H))
    | true => exact br_f (by decide) (nm_r (nI_1 i) (rg_plain hz c (i + 1) false (by omega) H))
theorem rg_X3 {post : Int32 → Prop} {z a b : Int32} {n : Nat} (hz : rg_N z n) (H : post (rg_res a b (rg_tog n false))) : wpX3_ringSteps post () a b z :=
  ⟨n + 1, rg_plain hz n 0 false (by omega) H⟩
/-! ===== the ring's loop: two cells x, y; y leads to x; x leads to y if more than one step is asked for ===== -/
theorem rg_ring {post : Int32 → St1 → Prop} {mc ms kc ks : Nat} {z a b : Int32} {n x y : Nat} {LP : List Nat} {pv : Nat → Int32} {pn : Nat → Option Nat}
    (hz : rg_N z n) (hx : x ∈ LP) (hy : y ∈ LP) (hne : x ≠ y) (ha : pv x = a) (hb : pv y = b) (ny : pn y = some x) (nx : 1 < n → pn x = some y) :
    ∀ c i t, i + c = n → (t = true → 0 < i) → (∀ u, post (rg_res a b (rg_tog c t)) u) → wX2_ringSteps_39 post mc ms (c + 1) (.inl (z, nI i, x, y, rg_at x y t, kc, ks, LP, pv, pn))
  | 0, i, t, h, ht, H => by
    refine br_t ((hz i (by omega)).mpr (by omega)) ⟨rg_mem hx hy t, nm_e ⟨hx, hy, ?_⟩⟩
    cases t with
    | false =>
      have e : va_up pv y (pv y + 1) x * 100 + va_up pv y (pv y + 1) y = a * 100 + (b + 1) := by
        rw [show va_up pv y (pv y + 1) x = pv x from if_neg hne, show va_up pv y (pv y + 1) y = pv y + 1 from if_pos rfl, ha, hb]
      show post (va_up pv y (pv y + 1) x * 100 + va_up pv y (pv y + 1) y) _
      rw [e]
      exact H _
    | true =>
      have e : va_up pv x (pv x + 1) x * 100 + va_up pv x (pv x + 1) y = (a + 1) * 100 + b := by
        rw [show va_up pv x (pv x + 1) x = pv x + 1 from if_pos rfl, show va_up pv x (pv x + 1) y = pv y from if_neg (Ne.symm hne), ha, hb]
      show post (va_up pv x (pv x + 1) x * 100 + va_up pv x (pv x + 1) y) _
      rw [e]
      exact H _
  | c + 1, i, t, h, ht, H => by
    refine br_f (fun q => absurd ((hz i (by omega)).mp q) (by omega)) ⟨rg_mem hx hy t, ?_⟩
    cases t with
    | false => exact op_s ny (nm_r (nI_1 i) (rg_ring hz hx hy hne ha hb ny nx c (i + 1) true (by omega) (fun _ => by omega) H))
    | true => exact op_s (nx (by have := ht rfl; omega)) (nm_r (nI_1 i) (rg_ring hz hx hy hne ha hb ny nx c (i + 1) false (by omega) (fun q => absurd q (by decide)) H))
end
section
/-! ===== the component's method, the law ===== -/
theorem rg_X2 {post : Int32 → St1 → Prop} {mc ms : Nat} {z a b : Int32} {n : Nat} {LP : List Nat} {pv : Nat → Int32} {pn : Nat → Option Nat}
    (hmc : 2 ≤ mc) (hms : 4 ≤ ms) (hz : rg_N z n) (h1 : a = b → n ≤ 1) (H : ∀ u, post (rg_res a b (rg_tog n false)) u) : wpX2_ringSteps post mc ms (LP, pv, pn) a b z := by
  refine ⟨by omega, by omega, fun x hx => ⟨List.mem_append_right _ (List.mem_singleton.mpr rfl), hmc, hms, fun y hy => ⟨List.mem_append_right _ (List.mem_singleton.mpr rfl), ?_⟩⟩⟩
  have hyx : y ≠ x := fun e => hy (e ▸ List.mem_append_right _ (List.mem_singleton.mpr rfl))
  have mx : x ∈ (LP ++ [x]) ++ [y] := List.mem_append_left _ (List.mem_append_right _ (List.mem_singleton.mpr rfl))
  have my : y ∈ (LP ++ [x]) ++ [y] := List.mem_append_right _ (List.mem_singleton.mpr rfl)
  have va : va_up (va_up (va_up (va_up pv x 0) x a) y 0) y b x = a := by
    simp only [va_up, if_neg (Ne.symm hyx), if_true]
  have vb : va_up (va_up (va_up (va_up pv x 0) x a) y 0) y b y = b := if_pos rfl
  have ny : va_up (va_up (va_up (va_up pn x none) x none) y none) y (some x) y = some x := if_pos rfl
  refine br_c (fun e => ⟨n + 1, ?_⟩) (fun e => ⟨mx, n + 1, ?_⟩)
  · exact rg_ring hz mx my (Ne.symm hyx) va vb ny (fun q => absurd (h1 e) (by omega)) n 0 false (by omega) (fun q => absurd q (by decide)) H
  · exact rg_ring hz mx my (Ne.symm hyx) va vb ((show va_up (va_up (va_up (va_up (va_up pn x none) x none) y none) y (some x)) x (some y) y = _ from if_neg hyx).trans ny) (fun _ => if_pos rfl) n 0 false (by omega) (fun q => absurd q (by decide)) H
theorem rg_17 {post : Int32 → St1 → Prop} {z a b : Int32} {n : Nat} {LP : List Nat} {pv : Nat → Int32} {pn : Nat → Option Nat}
    (hz : rg_N z n) (h1 : a = b → n ≤ 1) (H : ∀ u, post 1 u) : wL_lawOf_17 post 2 4 a b z 0 0 LP pv pn :=
  ⟨2, 4, by omega, by omega, rg_X2 (by omega) (by omega) hz h1 (fun u => rg_X3 hz (br_t rfl (H _)))⟩
theorem rg_lawOf {post : Int32 → St1 → Prop} {a b c : Int32} {u : St1} (H : ∀ u, post 1 u) : wpL_lawOf post 2 4 u a b c := by
  obtain ⟨LP, pv, pn⟩ := u
  refine br_c (fun e => ?_) (fun e => ?_)
  · obtain ⟨k, hk, ek⟩ := pk_andE c (m := 1) 1 (by decide)
    rw [ek]
    exact rg_17 (n := k) (rg_N1 k hk) (fun _ => by omega) H
  · obtain ⟨k, hk, ek⟩ := pk_andE c (m := 15) 4 (by decide)
    rw [ek]
    exact rg_17 (n := k - 2) (rg_N15 k hk) (fun q => absurd q e) H
theorem rg_cell {post : Int32 → Prop} {L : Nat} {xs : Nat → Int32} (hL : L ≤ 3) (j : Nat) (hj : j < 3) (H : ∀ r, post r) : wpL_cellAt post L xs () (nI j) :=
  pk_le L j (fun _ => H _) (fun h => ⟨vp_in_nI h (by omega), H _⟩)
theorem i_vc (xs : Nat → Int32) (L : Nat) (hL : L ≤ 3) : wpL_law (fun r => r = 1) L xs :=
  rg_cell hL 0 (by omega) (fun _ => rg_cell hL 1 (by omega) (fun _ => rg_cell hL 2 (by omega) (fun _ => ⟨2, 4, by omega, by omega, rg_lawOf (fun _ => rfl)⟩)))
end
