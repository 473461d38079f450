section
/-- the sum, as ints wrap, of the first m cells -/
def tl_sum (a : Nat → Int32) : Nat → Int32
  | 0 => 0
  | m + 1 => tl_sum a m + a m
theorem tl_us (a : Nat → Int32) (j : Nat) (x : Int32) : upd a j x j = x := by
  unfold upd
  exact if_pos rfl
theorem tl_un {a : Nat → Int32} {j i : Nat} {x : Int32} (h : i ≠ j) : upd a j x i = a i := by
  unfold upd
  exact if_neg h
/-- a write at or behind the end leaves the sum -/
theorem tl_out (a : Nat → Int32) (j : Nat) (x : Int32) : ∀ m : Nat, m ≤ j → tl_sum (upd a j x) m = tl_sum a m := by
  intro m
  induction m with
  | zero => intro _; rfl
  | succ m ih =>
    intro h
    show tl_sum (upd a j x) m + upd a j x m = tl_sum a m + a m
    rw [ih (by omega), tl_un (by omega)]
/-- a cell within grows by d: so does the sum -/
theorem tl_in (a : Nat → Int32) (j : Nat) (d : Int32) : ∀ m : Nat, j < m → tl_sum (upd a j (a j + d)) m = tl_sum a m + d := by
  intro m
  induction m with
  | zero => intro h; exact absurd h (Nat.not_lt_zero _)
  | succ m ih =>
    intro h
    show tl_sum (upd a j (a j + d)) m + upd a j (a j + d) m = tl_sum a m + a m + d
    by_cases e : m = j
    · cases e
      rw [tl_out a j _ j (Nat.le_refl _), tl_us, Int32.add_assoc]
    · rw [ih (by omega), tl_un e]
      grind
theorem tl_dec (a : Nat → Int32) (j : Nat) (d : Int32) (m : Nat) (h : j < m) : tl_sum (upd a j (a j - d)) m = tl_sum a m - d := by
  rw [Int32.sub_eq_add_neg, tl_in a j (-d) m h, Int32.sub_eq_add_neg]
theorem tl_zero : ∀ m : Nat, tl_sum (fun _ => 0) m = 0 := by
  intro m
  induction m with
  | zero => rfl
  | succ m ih =>
    show tl_sum (fun _ => 0) m + 0 = 0
    rw [ih]
    rfl
/-- a transfer keeps the sum -/
theorem tl_move (a : Nat → Int32) (f t : Nat) (d : Int32) (m : Nat) (hf : f < m) (ht : t < m) : tl_sum (upd (upd a f (a f - d)) t (upd a f (a f - d) t + d)) m = tl_sum a m := by
  rw [tl_in _ t d m ht, tl_dec a f d m hf]
  grind
/-- a transfer to the account itself changes nothing -/
theorem tl_self (a : Nat → Int32) (f : Nat) (d : Int32) : upd (upd a f (a f - d)) f (upd a f (a f - d) f + d) = a := by
  funext i
  by_cases e : i = f
  · cases e
    rw [tl_us, tl_us]
    grind
  · rw [tl_un e, tl_un e]
end
section
/-- one count of accounts (at most 16), one array of balances; the component's sum is the wrapped sum of the first m balances -/
def i_Rel (_ : Nat) (u : SX) (v : SY) : Prop := ∃ (m : Nat) (a : Nat → Int32), m ≤ 16 ∧ u = (nI m, tl_sum a m, a) ∧ v = (nI m, a)
theorem i_up {k : Nat} {u : SX} {v : SY} (h : i_Rel k u v) : i_Rel (k + 4) u v := h
theorem tl_rel {k m : Nat} {s : Int32} {a : Nat → Int32} (hm : m ≤ 16) (hs : s = tl_sum a m) : i_Rel k (nI m, s, a) (nI m, a) := ⟨m, a, hm, by rw [hs], rfl⟩
theorem tl_new {k m : Nat} {x : Int32} (hm : m ≤ 16) (hx : x = nI m) : i_Rel k (x, 0, (fun _ => 0)) (x, (fun _ => 0)) := by
  rw [hx]
  exact tl_rel hm (tl_zero m).symm
theorem tl_16 : (16 : Int32) = nI 16 := by decide +kernel
theorem i_vc0 (k0 : Int32) : wpX_init (fun u => wpY_init (fun v => i_Rel 1 u v) k0) k0 := by
  by_cases h0 : 0 ≤ k0
  · by_cases h5 : k0 ≤ 16
    · obtain ⟨m, hm, e⟩ := nI_of2 (x := k0) (M := 16) (n := 16) (by decide) (Int32.not_lt.mpr h0) h5
      exact br_t h0 (br_t h5 (br_t h0 (br_t h5 (tl_new hm e))))
    · exact br_t h0 (br_f h5 (br_t h0 (br_f h5 (tl_new (Nat.le_refl 16) tl_16))))
  · exact br_f h0 (br_t (by decide) (br_f h0 (tl_new (Nat.zero_le 16) nI_0.symm)))
theorem i_vc_accounts {k : Nat} {u : SX} {v : SY} (I : i_Rel k u v) (hk : k + 4 ≤ 2049) : wpX_accounts (fun r => wpY_accounts (fun r' => r' = r ∧ i_Rel (k + 4) u v) v) u := by
  obtain ⟨m, a, hm, rfl, rfl⟩ := I
  exact ⟨rfl, tl_rel hm rfl⟩
/-- the reference's loop adds up the cells from j on -/
theorem tl_loop (post : Int32 → Prop) (a : Nat → Int32) {m : Nat} (hm : m ≤ 16) (hp : post (tl_sum a m)) : ∀ d j : Nat, j + d = m → wY_total_4 post (nI m) a (d + 1) (tl_sum a j) (nI j) := by
  intro d
  induction d with
  | zero =>
    intro j hj
    have e : j = m := by omega
    cases e
    exact br_t (nI_le (Nat.le_refl _) (by omega)) hp
  | succ d ih =>
    intro j hj
    have hi : vp_in (nI j) 16 := vp_in_nI (by omega) (by omega)
    have hc : (nI j).toNatClampNeg = j := nI_clamp (by omega)
    refine br_f (nI_ge (by omega) (by omega)) ⟨hi, fun y ey z ez => ?_⟩
    rw [ey, ez, hc, nI_1]
    exact ih (j + 1) (by omega)
theorem tl_total (post : Int32 → Prop) (a : Nat → Int32) {m : Nat} (hm : m ≤ 16) (hp : post (tl_sum a m)) : wpY_total post (nI m, a) := by
  have h := tl_loop post a hm hp m 0 (Nat.zero_add m)
  rw [nI_0] at h
  exact ⟨m + 1, h⟩
theorem i_vc_total {k : Nat} {u : SX} {v : SY} (I : i_Rel k u v) (hk : k + 4 ≤ 2049) : wpX_total (fun r => wpY_total (fun r' => r' = r ∧ i_Rel (k + 4) u v) v) u := by
  obtain ⟨m, a, hm, rfl, rfl⟩ := I
  exact tl_total _ a hm ⟨rfl, tl_rel hm rfl⟩
/-- an account's number that passes the check -/
theorem tl_ix {x : Int32} {m : Nat} (hm : m ≤ 16) (h0 : ¬ x < 0) (hn : x < nI m) : vp_in x 16 ∧ x.toNatClampNeg < m := by
  obtain ⟨j, hj, rfl⟩ := nI_of h0
  rw [nI_ltI hj (by omega)] at hn
  refine ⟨vp_in_nI (by omega) (by omega), ?_⟩
  rw [nI_clamp hj]
  exact hn
theorem i_vc_balance {k : Nat} {u : SX} {v : SY} (I : i_Rel k u v) (hk : k + 4 ≤ 2049) (v1 : Int32) : wpX_balance (fun r => wpY_balance (fun r' => r' = r ∧ i_Rel (k + 4) u v) v v1) u v1 := by
  obtain ⟨m, a, hm, rfl, rfl⟩ := I
  by_cases h0 : v1 < 0
  · exact br_t h0 (br_t h0 ⟨rfl, tl_rel hm rfl⟩)
  · by_cases hn : v1 < nI m
    · have hi := (tl_ix hm h0 hn).1
      exact br_f h0 (br_t hn ⟨hi, br_f h0 (br_t hn ⟨hi, rfl, tl_rel hm rfl⟩)⟩)
    · exact br_f h0 (br_f hn (br_f h0 (br_f hn ⟨rfl, tl_rel hm rfl⟩)))
theorem i_vc_deposit {k : Nat} {u : SX} {v : SY} (I : i_Rel k u v) (hk : k + 4 ≤ 2049) (v1 : Int32) (v2 : Int32) : wpX_deposit (fun r u' => wpY_deposit (fun r' v' => r' = r ∧ i_Rel (k + 4) u' v') v v1 v2) u v1 v2 := by
  obtain ⟨m, a, hm, rfl, rfl⟩ := I
  by_cases h0 : v1 < 0
  · exact br_t h0 (br_t h0 ⟨rfl, tl_rel hm rfl⟩)
  · by_cases hn : v1 < nI m
    · obtain ⟨hi, hj⟩ := tl_ix hm h0 hn
      by_cases hp : 0 < v2
      · by_cases hs : v2 ≤ 2147483647 - tl_sum a m
        · refine br_f h0 (br_t hn (br_t hp (br_t hs ⟨hi, hi, nm_e (nm_e ?_)⟩)))
          refine br_f h0 (br_t hn (br_t hp (tl_total _ a hm (br_t hs ⟨hi, hi, nm_e ⟨rfl, ?_⟩⟩))))
          exact tl_rel hm (tl_in a _ v2 m hj).symm
        · refine br_f h0 (br_t hn (br_t hp (br_f hs ?_)))
          exact br_f h0 (br_t hn (br_t hp (tl_total _ a hm (br_f hs ⟨rfl, tl_rel hm rfl⟩))))
      · exact br_f h0 (br_t hn (br_f hp (br_f h0 (br_t hn (br_f hp ⟨rfl, tl_rel hm rfl⟩)))))
    · exact br_f h0 (br_f hn (br_f h0 (br_f hn ⟨rfl, tl_rel hm rfl⟩)))
theorem i_vc_transfer {k : Nat} {u : SX} {v : SY} (I : i_Rel k u v) (hk : k + 4 ≤ 2049) (v1 : Int32) (v2 : Int32) (v3 : Int32) : wpX_transfer (fun r u' => wpY_transfer (fun r' v' => r' = r ∧ i_Rel (k + 4) u' v') v v1 v2 v3) u v1 v2 v3 := by
  obtain ⟨m, a, hm, rfl, rfl⟩ := I
  have R : i_Rel (k + 4) (nI m, tl_sum a m, a) (nI m, a) := tl_rel hm rfl
  by_cases h0 : v1 < 0
  · exact br_t h0 (br_t h0 ⟨rfl, R⟩)
  · by_cases hn : nI m ≤ v1
    · exact br_f h0 (br_t hn (br_f h0 (br_t hn ⟨rfl, R⟩)))
    · by_cases g0 : v2 < 0
      · exact br_f h0 (br_f hn (br_t g0 (br_f h0 (br_f hn (br_t g0 ⟨rfl, R⟩)))))
      · by_cases gn : v2 < nI m
        · by_cases hp : 0 < v3
          · obtain ⟨hi, hj⟩ := tl_ix hm h0 (Int32.not_le.mp hn)
            obtain ⟨gi, gj⟩ := tl_ix hm g0 gn
            by_cases hs : v3 ≤ a v1.toNatClampNeg
            · by_cases he : v1 = v2
              · refine br_f h0 (br_f hn (br_f g0 (br_t gn (br_t hp ⟨hi, br_t hs (br_t he ?_)⟩))))
                refine br_f h0 (br_f hn (br_f g0 (br_t gn (br_t hp ⟨hi, br_t hs ⟨hi, hi, nm_e ⟨gi, gi, nm_e ⟨rfl, ?_⟩⟩⟩⟩))))
                rw [← he, tl_self]
                exact R
              · refine br_f h0 (br_f hn (br_f g0 (br_t gn (br_t hp ⟨hi, br_t hs (br_f he ⟨hi, hi, nm_e ⟨gi, gi, nm_e ?_⟩⟩)⟩))))
                refine br_f h0 (br_f hn (br_f g0 (br_t gn (br_t hp ⟨hi, br_t hs ⟨hi, hi, nm_e ⟨gi, gi, nm_e ⟨rfl, ?_⟩⟩⟩⟩))))
                exact tl_rel hm (tl_move a _ _ v3 m hj gj).symm
            · refine br_f h0 (br_f hn (br_f g0 (br_t gn (br_t hp ⟨hi, br_f hs ?_⟩))))
              exact br_f h0 (br_f hn (br_f g0 (br_t gn (br_t hp ⟨hi, br_f hs ⟨rfl, R⟩⟩))))
          · exact br_f h0 (br_f hn (br_f g0 (br_t gn (br_f hp (br_f h0 (br_f hn (br_f g0 (br_t gn (br_f hp ⟨rfl, R⟩)))))))))
        · exact br_f h0 (br_f hn (br_f g0 (br_f gn (br_f h0 (br_f hn (br_f g0 (br_f gn ⟨rfl, R⟩)))))))
end
