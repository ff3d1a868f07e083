/-! a search's end is one -/
theorem fd_ok {two : Bool} {U V : tb_T} {S : se_T} (hi : se_ok two S) (h1 : S.1 = 1) : ∀ f d, f + d ≤ 3 → fr_ok (fd two U V S f d) := by
  have hN : ∀ d, (gs two S (lv two S d)).1 ≤ 1500 := fun d => (gs_ok hi h1 d (lv two S d) (Nat.le_refl _) (lv_le d)).1
  have hit : ∀ d, d ≤ 3 → fr_ok (nI d, wn two U V (gs two S (lv two S d)) d 0, (gs two S (lv two S d)).1, en_c two U V (gs two S (lv two S d)).2.1 (gs two S (lv two S d)).1, d, (pth two U V (gs two S (lv two S d)) d 0).take 60) := by
    intro d hd
    have hn := hN d
    generalize gs two S (lv two S d) = A at hn ⊢
    refine ⟨?_, wn_le, hd, hn, Nat.le_trans (en_c_le _) hn, fun p hp => ?_⟩
    · show ((pth two U V A d 0).take 60).length = min 60 (wn two U V A d 0)
      rw [List.length_take, wn_p]
      omega
    · have hp : p ∈ (pth two U V A d 0).take 60 := hp
      have hp := List.mem_of_mem_take hp
      exact ⟨pth_len d 0 p hp, pth_lt d 0 p hp⟩
  have mis : ∀ (v : Int32) (d : Nat), fr_ok (v, 0, (gs two S (lv two S d)).1, en_c two U V (gs two S (lv two S d)).2.1 (gs two S (lv two S d)).1, 0, []) := by
    intro v d
    have hn := hN d
    generalize gs two S (lv two S d) = A at hn ⊢
    exact ⟨rfl, Nat.zero_le _, Nat.zero_le _, hn, Nat.le_trans (en_c_le _) hn, fun p hp => by cases hp⟩
  intro f
  induction f with
  | zero =>
    intro d hd
    unfold fd
    by_cases e : en_c two U V (gs two S (lv two S d)).2.1 (gs two S (lv two S d)).1 ≠ 0
    · rw [if_pos e]; exact hit d (by omega)
    · rw [if_neg e]; exact mis _ d
  | succ f ih =>
    intro d hd
    unfold fd
    by_cases e : en_c two U V (gs two S (lv two S d)).2.1 (gs two S (lv two S d)).1 ≠ 0
    · rw [if_pos e]; exact hit d (by omega)
    · rw [if_neg e]
      by_cases e2 : (gs two S (lv two S (d + 1))).2.2 = true
      · rw [if_pos e2]; exact mis _ (d + 1)
      · rw [if_neg e2]; exact ih (d + 1) (by omega)
theorem f_r_ok {T : Nat → tb_T} {W : Nat → wy_T} {n : Nat} {tp : Nat → Int32} {t w u v : Int32} {m : Nat} (ho : ab_ok T W n tp) (hm : m ≤ 3) (ht : mx_rg t 7 = true) (hu : u = -1 ∨ mx_rg u 7 = true) : fr_ok (f_r T t w u v m) := by
  obtain ⟨i, hi, rfl, ci1⟩ := mx_rg_7 ht
  unfold f_r
  refine fd_ok (se_0_ok ?_) rfl m 0 (by omega)
  unfold f_q
  rw [ci1]
  refine ⟨st_n_t (ho.1 i hi), ?_, fun e => by rw [e]; rfl⟩
  cases e : f_two u with
  | false => exact st_0_t
  | true =>
    rcases hu with hu | hu
    · rw [f_two_f hu] at e; cases e
    · obtain ⟨j, hj, rfl, cj⟩ := mx_rg_7 hu
      show st_t (st_n (T (nI j).toNatClampNeg))
      rw [cj]
      exact st_n_t (ho.1 j hj)
