/-! the law: its loop -/
set_option maxRecDepth 100000
set_option maxHeartbeats 4000000 in
theorem lawLoop {p : Program} {l : Launch} {e : Env} {s : State} {m : MethodId} {below : List Frame} {meth : Method} {c : Code} {G : Gt} {A : Nat → Prop} {b L : Nat} {xs : Nat → Int32} {Q : State → Prop} {d m0 o oD c0 s0 : Nat} (hfl : l.stackTraces = false) (F : LwF G A p s m c b L xs) (hc0 : c0 ≤ 600000) (hs0 : s0 ≤ 4000000)
    (kend : ∀ (ls : Array Slot) (H : Heap) (locs : List Loc) (cl sl : Nat), va_S A s.heap H locs → cl ≤ 1200144 → sl ≤ 5495674 → W p l e room_1 s m #[Value.ref b] below meth c H locs cl sl Q (F0 m 2794 ls [])) :
    ∀ (n N : Nat), n + N = 25 → ∀ (ls : Array Slot) (H : Heap) (locs : List Loc) (C M : DS) (th : Nat) (WD WM : va_W) (of : Nat → Int64) (og : Nat → UInt64), va_P G.1 CL ([(o, .inl (G.2 5, 1, .inr (.inl of))), (oD, .inl (G.2 6, 1, .inr (.inr (.inr (.inl og)))))] ++ (WD ++ (WM ++ []))) H → va_D A ([(o, .inl (G.2 5, 1, .inr (.inl of))), (oD, .inl (G.2 6, 1, .inr (.inr (.inr (.inl og)))))] ++ (WD ++ (WM ++ []))) → va_S A s.heap H locs → lv_has ls 10 [(0, .ref b), (1, .ref d), (2, .ref m0), (3, .ref o), (4, .ref oD), (5, .int (nI (4 * N)))] → DyW G d C WD → MdW G m0 M th WM → LawI C M N →
      W p l e room_1 s m #[Value.ref b] below meth c H locs (c0 + 20000 * N) (s0 + 45000 * N) Q (F0 m 28 ls []) := by
  have F9 := F
  obtain ⟨cf, hKB, hE, hA, hX9, hbl, hbA, hNc, hL96⟩ := F9
  have hx := cf.1
  have hb := cf.2.1
  intro n
  induction n with
  | zero =>
    intro N hN ls H locs C M th WD WM of og hP hD hS hl hDy hMd hLw
    refine lv_iload hx hb dL_law_28 (lv_at hl 5 rfl) ?_
    refine lv_aload_n hx hb dL_law_30 rfl (lv_at hl 0 rfl) ?_
    refine va_slen hx hb hX9 hbl hbA hS dL_law_31 ?_
    refine lv_iconst (v := nI 4) hx hb dL_law_32 (by decide) ?_
    refine lv_isub hx hb dL_law_33 ?_
    refine lv_icmp_gt (tgt := 2794) hx hb dL_law_34 (by decide) (fun _ => ?_) (fun c9 => absurd ((lim9 (i := 4 * N) (L := L) (by omega) hL96).mpr (by omega)) c9)
    exact kend _ _ _ _ _ hS (by omega) (by omega)
  | succ n ih =>
    intro N hN ls H locs C M th WD WM of og hP hD hS hl hDy hMd hLw
    refine lv_iload hx hb dL_law_28 (lv_at hl 5 rfl) ?_
    refine lv_aload_n hx hb dL_law_30 rfl (lv_at hl 0 rfl) ?_
    refine va_slen hx hb hX9 hbl hbA hS dL_law_31 ?_
    refine lv_iconst (v := nI 4) hx hb dL_law_32 (by decide) ?_
    refine lv_isub hx hb dL_law_33 ?_
    by_cases hlt : L < 4 * N + 4
    · refine lv_icmp_gt (tgt := 2794) hx hb dL_law_34 (by decide) (fun _ => ?_) (fun c9 => absurd ((lim9 (i := 4 * N) (L := L) (by omega) hL96).mpr hlt) c9)
      exact kend _ _ _ _ _ hS (by omega) (by omega)
    refine lv_icmp_gt (tgt := 2794) hx hb dL_law_34 (by decide) (fun c9 => absurd ((lim9 (i := 4 * N) (L := L) (by omega) hL96).mp c9) hlt) (fun _ => ?_)
    have hi9 : 4 * N + 4 ≤ L := by omega
    have hcl : c0 + 20000 * N + 20000 ≤ 1200144 := by omega
    have hsl : s0 + 45000 * N + 45000 ≤ 5495674 := by omega
    have kf : ∀ (ls : Array Slot) (H : Heap) (locs : List Loc) (C M : DS) (th : Nat) (WD WM : va_W) (of : Nat → Int64) (og : Nat → UInt64), va_P G.1 CL ([(o, .inl (G.2 5, 1, .inr (.inl of))), (oD, .inl (G.2 6, 1, .inr (.inr (.inr (.inl og)))))] ++ (WD ++ (WM ++ []))) H → va_D A ([(o, .inl (G.2 5, 1, .inr (.inl of))), (oD, .inl (G.2 6, 1, .inr (.inr (.inr (.inl og)))))] ++ (WD ++ (WM ++ []))) → va_S A s.heap H locs → lv_has ls 10 [(0, .ref b), (1, .ref d), (2, .ref m0), (3, .ref o), (4, .ref oD), (5, .int (nI i9))] → DyW G d C WD → MdW G m0 M th WM → LawI C M (N + 1) → W p l e room_1 s m #[Value.ref b] below meth c H locs (c0 + 20000 * N + 20000) (s0 + 45000 * N + 45000) Q (F0 m 2788 ls []) := by
      intro ls H locs C M th WD WM of og hP hD hS hl hDy hMd hLw
      refine lv_iinc (lv' := [(0, .ref b), (1, .ref d), (2, .ref m0), (3, .ref o), (4, .ref oD), (5, .int (nI (4 * (N + 1))))]) hx hb dL_law_2788 hl (by decide) rfl (fun ls hl => ?_)
      refine lv_goto (tgt := 28) hx hb dL_law_2791 (by decide) ?_
      exact W.widen (by omega) (by omega) (ih (N + 1) (by omega) ls H locs C M th WD WM of og hP hD hS hl hDy hMd hLw)
    have hl : lv_has ls 10 [(0, .ref b), (1, .ref d), (2, .ref m0), (3, .ref o), (4, .ref oD), (5, .int (nI (4 * N)))] := hl
    refine lv_aload_n hx hb dL_law_37 rfl (lv_at hl 0 rfl) ?_
    refine lv_iload hx hb dL_law_38 (lv_at hl 5 rfl) ?_
    refine va_sld hx hb hX9 hbl hbA hS (i := nI (4 * N)) (vp9 (by omega) hL96) dL_law_40 ?_
    refine lv_iconst (v := nI 63) hx hb dL_law_41 (by decide) ?_
    refine lv_iand hx hb dL_law_43 ?_
    obtain ⟨k, hk, hv⟩ := and63 (xs (nI (4 * N)).toNatClampNeg)
    rw [hv]
    rcases Nat.lt_or_ge k 51 with hk1 | hk1
    · rcases (show k = 0 ∨ k = 1 ∨ k = 2 ∨ k = 3 ∨ k = 4 ∨ k = 5 ∨ k = 6 ∨ k = 7 ∨ k = 8 ∨ k = 9 ∨ k = 10 ∨ k = 11 ∨ k = 12 ∨ k = 13 ∨ k = 14 ∨ k = 15 ∨ k = 16 ∨ k = 17 ∨ k = 18 ∨ k = 19 ∨ k = 20 ∨ k = 21 ∨ k = 22 ∨ k = 23 ∨ k = 24 ∨ k = 25 ∨ k = 26 ∨ k = 27 ∨ k = 28 ∨ k = 29 ∨ k = 30 ∨ k = 31 ∨ k = 32 ∨ k = 33 ∨ k = 34 ∨ k = 35 ∨ k = 36 ∨ k = 37 ∨ k = 38 ∨ k = 39 ∨ k = 40 ∨ k = 41 ∨ k = 42 ∨ k = 43 ∨ k = 44 ∨ k = 45 ∨ k = 46 ∨ k = 47 ∨ k = 48 ∨ k = 49 ∨ k = 50 by omega) with e | e | e | e | e | e | e | e | e | e | e | e | e | e | e | e | e | e | e | e | e | e | e | e | e | e | e | e | e | e | e | e | e | e | e | e | e | e | e | e | e | e | e | e | e | e | e | e | e | e | e
      · subst e; exact lv_tableIn (x := nI 0) (off := 220) (tgt := 264) hx hb dL_law_44 (by decide) (by decide) rfl (by decide) (lawK_0 hfl F hi9 (by omega) hcl hsl kf hP hD hS hl hDy hMd hLw)
      · subst e; exact lv_tableIn (x := nI 1) (off := 276) (tgt := 320) hx hb dL_law_44 (by decide) (by decide) rfl (by decide) (lawK_1 hfl F hi9 (by omega) hcl hsl kf hP hD hS hl hDy hMd hLw)
      · subst e; exact lv_tableIn (x := nI 2) (off := 289) (tgt := 333) hx hb dL_law_44 (by decide) (by decide) rfl (by decide) (lawK_2 hfl F hi9 (by omega) hcl hsl kf hP hD hS hl hDy hMd hLw)
      · subst e; exact lv_tableIn (x := nI 3) (off := 357) (tgt := 401) hx hb dL_law_44 (by decide) (by decide) rfl (by decide) (lawK_3 hfl F hi9 (by omega) hcl hsl kf hP hD hS hl hDy hMd hLw)
      · subst e; exact lv_tableIn (x := nI 4) (off := 413) (tgt := 457) hx hb dL_law_44 (by decide) (by decide) rfl (by decide) (lawK_4 hfl F hi9 (by omega) hcl hsl kf hP hD hS hl hDy hMd hLw)
      · subst e; exact lv_tableIn (x := nI 5) (off := 426) (tgt := 470) hx hb dL_law_44 (by decide) (by decide) rfl (by decide) (lawK_5 hfl F hi9 (by omega) hcl hsl kf hP hD hS hl hDy hMd hLw)
      · subst e; exact lv_tableIn (x := nI 6) (off := 482) (tgt := 526) hx hb dL_law_44 (by decide) (by decide) rfl (by decide) (lawK_6 hfl F hi9 (by omega) hcl hsl kf hP hD hS hl hDy hMd hLw)
      · subst e; exact lv_tableIn (x := nI 7) (off := 550) (tgt := 594) hx hb dL_law_44 (by decide) (by decide) rfl (by decide) (lawK_7 hfl F hi9 (by omega) hcl hsl kf hP hD hS hl hDy hMd hLw)
      · subst e; exact lv_tableIn (x := nI 8) (off := 606) (tgt := 650) hx hb dL_law_44 (by decide) (by decide) rfl (by decide) (lawK_8 hfl F hi9 (by omega) hcl hsl kf hP hD hS hl hDy hMd hLw)
      · subst e; exact lv_tableIn (x := nI 9) (off := 674) (tgt := 718) hx hb dL_law_44 (by decide) (by decide) rfl (by decide) (lawK_9 hfl F hi9 (by omega) hcl hsl kf hP hD hS hl hDy hMd hLw)
      · subst e; exact lv_tableIn (x := nI 10) (off := 730) (tgt := 774) hx hb dL_law_44 (by decide) (by decide) rfl (by decide) (lawK_10 hfl F hi9 (by omega) hcl hsl kf hP hD hS hl hDy hMd hLw)
      · subst e; exact lv_tableIn (x := nI 11) (off := 798) (tgt := 842) hx hb dL_law_44 (by decide) (by decide) rfl (by decide) (lawK_11 hfl F hi9 (by omega) hcl hsl kf hP hD hS hl hDy hMd hLw)
      · subst e; exact lv_tableIn (x := nI 12) (off := 854) (tgt := 898) hx hb dL_law_44 (by decide) (by decide) rfl (by decide) (lawK_12 hfl F hi9 (by omega) hcl hsl kf hP hD hS hl hDy hMd hLw)
      · subst e; exact lv_tableIn (x := nI 13) (off := 934) (tgt := 978) hx hb dL_law_44 (by decide) (by decide) rfl (by decide) (lawK_13 hfl F hi9 (by omega) hcl hsl kf hP hD hS hl hDy hMd hLw)
      · subst e; exact lv_tableIn (x := nI 14) (off := 990) (tgt := 1034) hx hb dL_law_44 (by decide) (by decide) rfl (by decide) (lawK_14 hfl F hi9 (by omega) hcl hsl kf hP hD hS hl hDy hMd hLw)
      · subst e; exact lv_tableIn (x := nI 15) (off := 1058) (tgt := 1102) hx hb dL_law_44 (by decide) (by decide) rfl (by decide) (lawK_15 hfl F hi9 (by omega) hcl hsl kf hP hD hS hl hDy hMd hLw)
      · subst e; exact lv_tableIn (x := nI 16) (off := 1114) (tgt := 1158) hx hb dL_law_44 (by decide) (by decide) rfl (by decide) (lawK_16 hfl F hi9 (by omega) hcl hsl kf hP hD hS hl hDy hMd hLw)
      · subst e; exact lv_tableIn (x := nI 17) (off := 1127) (tgt := 1171) hx hb dL_law_44 (by decide) (by decide) rfl (by decide) (lawK_17 hfl F hi9 (by omega) hcl hsl kf hP hD hS hl hDy hMd hLw)
      · subst e; exact lv_tableIn (x := nI 18) (off := 1183) (tgt := 1227) hx hb dL_law_44 (by decide) (by decide) rfl (by decide) (lawK_18 hfl F hi9 (by omega) hcl hsl kf hP hD hS hl hDy hMd hLw)
      · subst e; exact lv_tableIn (x := nI 19) (off := 1239) (tgt := 1283) hx hb dL_law_44 (by decide) (by decide) rfl (by decide) (lawK_19 hfl F hi9 (by omega) hcl hsl kf hP hD hS hl hDy hMd hLw)
      · subst e; exact lv_tableIn (x := nI 20) (off := 1295) (tgt := 1339) hx hb dL_law_44 (by decide) (by decide) rfl (by decide) (lawK_20 hfl F hi9 (by omega) hcl hsl kf hP hD hS hl hDy hMd hLw)
      · subst e; exact lv_tableIn (x := nI 21) (off := 1363) (tgt := 1407) hx hb dL_law_44 (by decide) (by decide) rfl (by decide) (lawK_21 hfl F hi9 (by omega) hcl hsl kf hP hD hS hl hDy hMd hLw)
      · subst e; exact lv_tableIn (x := nI 22) (off := 1419) (tgt := 1463) hx hb dL_law_44 (by decide) (by decide) rfl (by decide) (lawK_22 hfl F hi9 (by omega) hcl hsl kf hP hD hS hl hDy hMd hLw)
      · subst e; exact lv_tableIn (x := nI 23) (off := 1475) (tgt := 1519) hx hb dL_law_44 (by decide) (by decide) rfl (by decide) (lawK_23 hfl F hi9 (by omega) hcl hsl kf hP hD hS hl hDy hMd hLw)
      · subst e; exact lv_tableIn (x := nI 24) (off := 1553) (tgt := 1597) hx hb dL_law_44 (by decide) (by decide) rfl (by decide) (lawK_24 hfl F hi9 (by omega) hcl hsl kf hP hD hS hl hDy hMd hLw)
      · subst e; exact lv_tableIn (x := nI 25) (off := 1594) (tgt := 1638) hx hb dL_law_44 (by decide) (by decide) rfl (by decide) (lawK_25 hfl F hi9 (by omega) hcl hsl kf hP hD hS hl hDy hMd hLw)
      · subst e; exact lv_tableIn (x := nI 26) (off := 1650) (tgt := 1694) hx hb dL_law_44 (by decide) (by decide) rfl (by decide) (lawK_26 hfl F hi9 (by omega) hcl hsl kf hP hD hS hl hDy hMd hLw)
      · subst e; exact lv_tableIn (x := nI 27) (off := 1706) (tgt := 1750) hx hb dL_law_44 (by decide) (by decide) rfl (by decide) (lawK_27 hfl F hi9 (by omega) hcl hsl kf hP hD hS hl hDy hMd hLw)
      · subst e; exact lv_tableIn (x := nI 28) (off := 1762) (tgt := 1806) hx hb dL_law_44 (by decide) (by decide) rfl (by decide) (lawK_28 hfl F hi9 (by omega) hcl hsl kf hP hD hS hl hDy hMd hLw)
      · subst e; exact lv_tableIn (x := nI 29) (off := 1818) (tgt := 1862) hx hb dL_law_44 (by decide) (by decide) rfl (by decide) (lawK_29 hfl F hi9 (by omega) hcl hsl kf hP hD hS hl hDy hMd hLw)
      · subst e; exact lv_tableIn (x := nI 30) (off := 1874) (tgt := 1918) hx hb dL_law_44 (by decide) (by decide) rfl (by decide) (lawK_30 hfl F hi9 (by omega) hcl hsl kf hP hD hS hl hDy hMd hLw)
      · subst e; exact lv_tableIn (x := nI 31) (off := 1887) (tgt := 1931) hx hb dL_law_44 (by decide) (by decide) rfl (by decide) (lawK_31 hfl F hi9 (by omega) hcl hsl kf hP hD hS hl hDy hMd hLw)
      · subst e; exact lv_tableIn (x := nI 32) (off := 1943) (tgt := 1987) hx hb dL_law_44 (by decide) (by decide) rfl (by decide) (lawK_32 hfl F hi9 (by omega) hcl hsl kf hP hD hS hl hDy hMd hLw)
      · subst e; exact lv_tableIn (x := nI 33) (off := 1999) (tgt := 2043) hx hb dL_law_44 (by decide) (by decide) rfl (by decide) (lawK_33 hfl F hi9 (by omega) hcl hsl kf hP hD hS hl hDy hMd hLw)
      · subst e; exact lv_tableIn (x := nI 34) (off := 2055) (tgt := 2099) hx hb dL_law_44 (by decide) (by decide) rfl (by decide) (lawK_34 hfl F hi9 (by omega) hcl hsl kf hP hD hS hl hDy hMd hLw)
      · subst e; exact lv_tableIn (x := nI 35) (off := 2111) (tgt := 2155) hx hb dL_law_44 (by decide) (by decide) rfl (by decide) (lawK_35 hfl F hi9 (by omega) hcl hsl kf hP hD hS hl hDy hMd hLw)
      · subst e; exact lv_tableIn (x := nI 36) (off := 2167) (tgt := 2211) hx hb dL_law_44 (by decide) (by decide) rfl (by decide) (lawK_36 hfl F hi9 (by omega) hcl hsl kf hP hD hS hl hDy hMd hLw)
      · subst e; exact lv_tableIn (x := nI 37) (off := 2223) (tgt := 2267) hx hb dL_law_44 (by decide) (by decide) rfl (by decide) (lawK_37 hfl F hi9 (by omega) hcl hsl kf hP hD hS hl hDy hMd hLw)
      · subst e; exact lv_tableIn (x := nI 38) (off := 2279) (tgt := 2323) hx hb dL_law_44 (by decide) (by decide) rfl (by decide) (lawK_38 hfl F hi9 (by omega) hcl hsl kf hP hD hS hl hDy hMd hLw)
      · subst e; exact lv_tableIn (x := nI 39) (off := 2292) (tgt := 2336) hx hb dL_law_44 (by decide) (by decide) rfl (by decide) (lawK_39 hfl F hi9 (by omega) hcl hsl kf hP hD hS hl hDy hMd hLw)
      · subst e; exact lv_tableIn (x := nI 40) (off := 2348) (tgt := 2392) hx hb dL_law_44 (by decide) (by decide) rfl (by decide) (lawK_40 hfl F hi9 (by omega) hcl hsl kf hP hD hS hl hDy hMd hLw)
      · subst e; exact lv_tableIn (x := nI 41) (off := 2404) (tgt := 2448) hx hb dL_law_44 (by decide) (by decide) rfl (by decide) (lawK_41 hfl F hi9 (by omega) hcl hsl kf hP hD hS hl hDy hMd hLw)
      · subst e; exact lv_tableIn (x := nI 42) (off := 2448) (tgt := 2492) hx hb dL_law_44 (by decide) (by decide) rfl (by decide) (lawK_42 hfl F hi9 (by omega) hcl hsl kf hP hD hS hl hDy hMd hLw)
      · subst e; exact lv_tableIn (x := nI 43) (off := 2461) (tgt := 2505) hx hb dL_law_44 (by decide) (by decide) rfl (by decide) (lawK_43 hfl F hi9 (by omega) hcl hsl kf hP hD hS hl hDy hMd hLw)
      · subst e; exact lv_tableIn (x := nI 44) (off := 2474) (tgt := 2518) hx hb dL_law_44 (by decide) (by decide) rfl (by decide) (lawK_44 hfl F hi9 (by omega) hcl hsl kf hP hD hS hl hDy hMd hLw)
      · subst e; exact lv_tableIn (x := nI 45) (off := 2518) (tgt := 2562) hx hb dL_law_44 (by decide) (by decide) rfl (by decide) (lawK_45 hfl F hi9 (by omega) hcl hsl kf hP hD hS hl hDy hMd hLw)
      · subst e; exact lv_tableIn (x := nI 46) (off := 2531) (tgt := 2575) hx hb dL_law_44 (by decide) (by decide) rfl (by decide) (lawK_46 hfl F hi9 (by omega) hcl hsl kf hP hD hS hl hDy hMd hLw)
      · subst e; exact lv_tableIn (x := nI 47) (off := 2587) (tgt := 2631) hx hb dL_law_44 (by decide) (by decide) rfl (by decide) (lawK_47 hfl F hi9 (by omega) hcl hsl kf hP hD hS hl hDy hMd hLw)
      · subst e; exact lv_tableIn (x := nI 48) (off := 2643) (tgt := 2687) hx hb dL_law_44 (by decide) (by decide) rfl (by decide) (lawK_48 hfl F hi9 (by omega) hcl hsl kf hP hD hS hl hDy hMd hLw)
      · subst e; exact lv_tableIn (x := nI 49) (off := 2687) (tgt := 2731) hx hb dL_law_44 (by decide) (by decide) rfl (by decide) (lawK_49 hfl F hi9 (by omega) hcl hsl kf hP hD hS hl hDy hMd hLw)
      · subst e; exact lv_tableIn (x := nI 50) (off := 2700) (tgt := 2744) hx hb dL_law_44 (by decide) (by decide) rfl (by decide) (lawK_50 hfl F hi9 (by omega) hcl hsl kf hP hD hS hl hDy hMd hLw)
    · refine lv_tableOut (x := nI k) (tgt := 2788) hx hb dL_law_44 (Or.inr (by rw [nI_toInt (by omega)]; omega)) (by decide) ?_
      exact W.widen (by omega) (by omega) (kf ls H locs C M th WD WM of og hP hD hS hl hDy hMd hLw.up)
