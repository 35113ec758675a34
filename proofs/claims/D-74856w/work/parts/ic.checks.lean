/-! ROOM: every combination of classes fits -/
set_option maxRecDepth 100000
theorem none_ok : ((List.range 5).all fun n => chkC (n + 1) 0 0 (12 * (n + 1)) 64 []) = true ∧ chkC 1 0 0 0 64 [] = true := by decide +kernel
/-- A: neither retry nor renew -/
theorem ok_A : ((List.range 5).all fun n => allK (n + 1) [0, 1] (chkC (n + 1) 1 1 (12 * (n + 1)) 64)) = true ∧ chkC 1 1 1 0 64 [0] = true := by decide +kernel
/-- U: any -/
theorem ok_U : allK 1 [10, 15] (chkC 1 1 1 36 64) = true ∧ allK 2 [10, 15] (chkC 2 1 1 48 64) = true ∧ allK 3 [10, 15] (chkC 3 1 1 52 64) = true ∧ allK 4 [10, 15] (chkC 4 1 1 56 64) = true ∧ allK 5 [10, 15] (chkC 5 1 1 60 64) = true := by decide +kernel
/-- C: renew only, no jitter -/
theorem ok_C : chkC 1 1 1 20 64 [6] = true ∧ chkC 1 1 1 22 64 [7] = true ∧ allK 2 [6, 7] (chkC 2 1 1 32 64) = true ∧ allK 3 [6, 7] (chkC 3 1 1 44 64) = true := by decide +kernel
/-- one node -/
theorem ok_1 : chkC 1 1 1 20 64 [2] = true ∧ chkC 1 1 1 22 64 [3] = true ∧ chkC 1 64 1 23 64 [4] = true ∧ chkC 1 1 2 23 64 [5] = true ∧ chkC 1 1 1 28 64 [8] = true ∧ chkC 1 64 1 29 64 [9] = true ∧ chkC 1 1 2 29 64 [10] = true ∧ chkC 1 1 1 28 64 [11] = true ∧ chkC 1 1 1 30 64 [12] = true ∧ chkC 1 1 1 30 64 [14] = true := by decide +kernel
/-- extra bytes of a class in a pair (retry only) -/
def b17 (k : Nat) : Nat := if k = 16 then 2 else if k = 17 then 3 else 0
/-- two nodes, both active (retry only, no jitter; not both dense) -/
theorem ok_2 : (allK 2 [2, 6, 16, 17] fun ks => (Nat.beq (ks.map b17).sum 6) || chkC 2 2 2 (32 + (ks.map b17).sum) 64 ks) = true ∧ ([2, 6, 16, 17].all fun k => chkC 2 1 1 (32 + b17 k) 64 [k]) = true := by decide +kernel
theorem ok_2b : chkC 2 2 2 40 64 [8, 8] = true ∧ chkC 2 2 2 41 64 [8, 10] = true ∧ chkC 2 2 2 41 64 [10, 8] = true ∧ chkC 2 1 1 40 64 [8] = true ∧ chkC 2 1 1 41 64 [10] = true := by decide +kernel
theorem ok_2c : chkC 2 1 1 40 64 [11, 11] = true ∧ allK 2 [6, 11, 13] (chkC 2 2 2 42 64) = true ∧ ([6, 11, 12].all fun k => chkC 2 1 1 42 64 [k]) = true := by decide +kernel
theorem ok_2d : chkC 2 1 1 40 64 [6, 6] = true ∧ chkC 2 2 2 42 64 [6, 14] = true ∧ chkC 2 2 2 42 64 [14, 6] = true ∧ chkC 2 1 1 40 64 [6] = true ∧ chkC 2 1 1 42 64 [14] = true := by decide +kernel
/-- pairs -/
theorem ok_P : chk (lpa tPg1) 24 (lpb tPg1 24) 22 0 2 2 38 2 3 = true ∧ chk (lpa tPg2) 22 (lpb tPg2 22) 22 0 2 2 38 4 64 = true ∧ chk (lpa tPb1) 20 (lpb tPb1 20) 22 0 2 2 42 2 3 = true ∧ chk (lpa tPb2) 18 (lpb tPb2 18) 22 0 2 2 42 4 64 = true ∧ chk (lpa tPa1) 20 (lpb tPa1 20) 22 0 2 2 42 2 3 = true ∧ chk (lpa tPa2) 18 (lpb tPa2 18) 22 0 2 2 42 4 64 = true := by decide +kernel
def b18 (k : Nat) : Nat := if k = 18 then 2 else 0
theorem ok_3 : (allK 3 [2, 6, 18] fun ks => chkC 3 1 1 (44 + (ks.map b18).sum) 64 ks) = true := by decide +kernel
